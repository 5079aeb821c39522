/-! 63.da.lean.txt -/
/-! dates -/
set_option maxRecDepth 100000
section DTX
variable {ω : AO} {d G : Nat} {Θ Θ1 : Th} {a p j n b x y : Int} {rs : List Int} {ws us : List Wo} {s : Int} {l : List Int}
/-- the reader of a date: its words, the one at hand -/
def DR (ω : AO) (Θ : Th) (a p : Int) (rs : List Int) (ws : List Wo) (j n : Int) : Prop := xo Θ a = (47, [p, n, j], 0, 0) ∧ (∃ c e, xo Θ p = (3, rs, c, e)) ∧ all2 (CutO ω Θ) rs ws ∧ ¬ fz Θ a
/-- us are the words from the one at hand on -/
def DT (ω : AO) (Θ : Th) (a : Int) (us : List Wo) (b : Int) : Prop := ∃ p rs ws j n, DR ω Θ a p rs ws (j + 1) n ∧ 0 ≤ j ∧ j ≤ b ∧ n = (if j < len rs then gt rs j else -1) ∧ us = ws.drop j.toNat
theorem DT.gr (h : DT ω Θ a us b) (g : Gr Θ Θ1) : DT ω Θ1 a us b := sorry
theorem DT.kd (h : DT ω Θ a us b) : kd Θ a = 47 := sorry
theorem DT.mono {b2 : Int} (h : DT ω Θ a us b) (hb : b ≤ b2) : DT ω Θ a us b2 := sorry
/-- the word at hand -/
theorem DT.now (h : DT ω Θ a us b) (B : Bl Θ) : (us = [] ∧ gt (vv Θ a) 1 = -1) ∨ ∃ w r, us = w :: r ∧ CutO ω Θ (gt (vv Θ a) 1) w ∧ 0 ≤ gt (vv Θ a) 1 := sorry
theorem u_X39_goR {Q : Th → Prop} (hd : 3 ≤ d) (h : DR ω Θ a p rs ws j n) (h0 : 0 ≤ j ∧ j ≤ 100000000) (hn : -1 ≤ n) (hQ : ∀ Θ', GrX (· = a) Θ Θ' → DT ω Θ' a (ws.drop j.toNat) j → Q Θ') : w2_X39_go ω d G a Θ Q := sorry
theorem u_X39_go {Q : Th → Prop} (hd : 3 ≤ d) (h : DT ω Θ a us b) (hb : b ≤ 1000000) (hQ : ∀ Θ', GrX (· = a) Θ Θ' → DT ω Θ' a us.tail (b + 1) → Q Θ') : w2_X39_go ω d G a Θ Q := sorry
/-- the head of the words is a sign -/
def hdG (c : Int) : List Wo → Bool
  | [] => false
  | w :: _ => decide (isG w c)
abbrev dsg (c : Int) (us : List Wo) : Prop := hdG c us = true
/-- signs have a character -/
def sgO (us : List Wo) : Prop := ∀ w ∈ us, w.1 = 12 → 0 < len w.2
theorem u_X39_isSign {c : Int} {Q : Int → Th → Prop} (hd : 6 ≤ d) (h : DT ω Θ a us b) (hs : sgO us) (hc : inI c) (hQ1 : dsg c us → Q 1 Θ) (hQ0 : ¬ dsg c us → Q 0 Θ) : w2_X39_isSign ω d G a c Θ Q := sorry
/-- an atom at hand is read -/
def datom : List Wo → List Int × List Wo
  | [] => ([], [])
  | w :: r => if w.1 = 9 then (w.2, r) else ([], w :: r)
theorem u_X39_atom {Q : Int → Th → Prop} (hd : 4 ≤ d) (h : DT ω Θ a us b) (hb : b ≤ 1000000) (hQ : ∀ r Θ', GrX (· = a) Θ Θ' → DT ω Θ' a (datom us).2 (b + 1) → Str Θ' r (datom us).1 → Q r Θ') : w2_X39_atom ω d G a Θ Q := sorry
/-- two digits below a bound -/
def twF (l : List Int) (x : Int) : Int := if len l = 2 ∧ digB l = true ∧ nmB l < x then nmB l else -1
theorem digB_all {l : List Int} (h : digB l = true) : l.all dgB = true := sorry
theorem u_X39_two {Q : Int → Th → Prop} (hd : 6 ≤ d) (hs : Str Θ s l) (hx : inI x) (hQ : Q (twF l x) Θ) : w2_X39_two ω d G s x Θ Q := sorry
/-- years -/
def yrF (l : List Int) : Int :=
  if digB l = true ∧ len l ≤ 9 then
    if len l = 2 then (if nmB l < 50 then 2000 + nmB l else 1900 + nmB l) else if len l = 3 then 1900 + nmB l else if 3 < len l then nmB l else -1
  else -1
theorem nmB_in {l : List Int} (h : l.all dgB = true) : 0 ≤ nmB l ∧ nmB l < 1000000000 := sorry
theorem u_X39_year {Q : Int → Th → Prop} (hd : 6 ≤ d) (hs : Str Θ s l) (hQ : Q (yrF l) Θ) : w2_X39_year ω d G s Θ Q := sorry
/-- the days of the months ahead -/
def dyL (y m n k : Int) : Int := if h : k < m then dyL y m (n + mdF y k) (k + 1) else n
termination_by (m - k).toNat
def dyF (y m t : Int) : Int := dyL y m (365 * (y - 1970) + Int.tdiv (y - 1) 4 - Int.tdiv (y - 1) 100 + Int.tdiv (y - 1) 400 - 477) 1 + t - 1
theorem mdF_in {y m : Int} : 28 ≤ mdF y m ∧ mdF y m ≤ 31 := sorry
theorem dyL_in {y m : Int} : ∀ (N : Nat) (n k : Int), (m - k).toNat = N → n ≤ dyL y m n k ∧ dyL y m n k ≤ n + 31 * N := sorry
theorem u_X39_days {m t : Int} {Q : Int → Th → Prop} (hd : 2 ≤ d) (hy : 1900 ≤ y ∧ y ≤ 2999) (hm : 0 ≤ m ∧ m ≤ 13) (ht : 0 ≤ t ∧ t ≤ 100) (hQ : Q (dyF y m t) Θ) : w2_X39_days ω d G y m t Θ Q := sorry
end DTX

/-! 63.db.lean.txt -/
/-! dates: months, zones, all -/
set_option maxRecDepth 100000
def MONT : List Int := [106, 97, 110, 102, 101, 98, 109, 97, 114, 97, 112, 114, 109, 97, 121, 106, 117, 110, 106, 117, 108, 97, 117, 103, 115, 101, 112, 111, 99, 116, 110, 111, 118, 100, 101, 99]
/-- the month of three small letters -/
def mo3 (t : List Int) : Int :=
  if t = [106, 97, 110] then 1 else if t = [102, 101, 98] then 2 else if t = [109, 97, 114] then 3 else if t = [97, 112, 114] then 4 else if t = [109, 97, 121] then 5 else if t = [106, 117, 110] then 6
  else if t = [106, 117, 108] then 7 else if t = [97, 117, 103] then 8 else if t = [115, 101, 112] then 9 else if t = [111, 99, 116] then 10 else if t = [110, 111, 118] then 11 else if t = [100, 101, 99] then 12 else -1
def moF (l : List Int) : Int := if len l < 3 then -1 else mo3 ((sub l 0 3).map lowB)
theorem ite_rg {c : Prop} [Decidable c] {a b lo hi : Int} (h1 : lo ≤ a ∧ a ≤ hi) (h2 : lo ≤ b ∧ b ≤ hi) : lo ≤ (if c then a else b) ∧ (if c then a else b) ≤ hi := sorry
theorem mo3_in (t : List Int) : -1 ≤ mo3 t ∧ mo3 t ≤ 12 := sorry
theorem mo3_pix {t : List Int} {r : Int} (h : IsPix MONT t r) (ht : len t = 3) : mo3 t = if r < 0 then -1 else if ¬ Int.tmod r 3 = 0 then -1 else Int.tdiv r 3 + 1 := sorry
theorem byt_wide {l : List Int} (h : byt l) : wide l = 0 := if_pos (fun x hx => (h x hx).2)
theorem byt_low {l : List Int} (h : byt l) : byt (l.map lowB) := sorry
theorem byt_sub {l : List Int} {i j : Int} (h : byt l) : byt (sub l i j) := sorry
section DMX
variable {ω : AO} {d G : Nat} {Θ Θ1 : Th} {a b s x y : Int} {us : List Wo} {l : List Int}
theorem u_X39_month {Q : Int → Th → Prop} (hd : 10 ≤ d) (hs : Str Θ s l) (hb : byt l) (hl : len l ≤ 1000000) (hG : 60 ≤ G) (hQ : ∀ Θ', Gr Θ Θ' → Q (moF l) Θ') : w2_X39_month ω d G s Θ Q := sorry
/-- zones that have a name, in minutes -/
def zn3 (t : List Int) : Int :=
  if t = [101, 100, 116] then -240 else if t = [101, 115, 116] then -300 else if t = [99, 100, 116] then -300 else if t = [99, 115, 116] then -360 else if t = [109, 100, 116] then -360 else if t = [109, 115, 116] then -420
  else if t = [112, 100, 116] then -420 else if t = [112, 115, 116] then -480 else 0
theorem zn3_c (t : List Int) : (zn3 t = 0 ∧ hsh t = hsh t) ∨ (t = [101, 100, 116] ∧ hsh t = 100277) ∨ (t = [101, 115, 116] ∧ hsh t = 100742) ∨ (t = [99, 100, 116] ∧ hsh t = 98355) ∨ (t = [99, 115, 116] ∧ hsh t = 98820) ∨ (t = [109, 100, 116] ∧ hsh t = 107965) ∨
    (t = [109, 115, 116] ∧ hsh t = 108430) ∨ (t = [112, 100, 116] ∧ hsh t = 110848) ∨ (t = [112, 115, 116] ∧ hsh t = 111313) := sorry
def znF (l : List Int) : Int :=
  if len l = 5 ∧ (gt l 0 = 43 ∨ gt l 0 = 45) then
    if twF (sub l 1 3) 24 < 0 ∨ twF (sub l 3 5) 60 < 0 then 0 else if gt l 0 = 43 then 60 * twF (sub l 1 3) 24 + twF (sub l 3 5) 60 else -60 * twF (sub l 1 3) 24 - twF (sub l 3 5) 60
  else zn3 (l.map lowB)
theorem twF_in {l : List Int} {x : Int} (hx : 0 ≤ x) : -1 ≤ twF l x ∧ twF l x < max x 0 ∨ twF l x = -1 := sorry
theorem u_X39_zone {Q : Int → Th → Prop} (hd : 10 ≤ d) (hs : Str Θ s l) (hb : byt l) (hl : len l ≤ 1000000) (hG : 5 * len l + 40 ≤ (G : Int)) (hQ : ∀ Θ', Gr Θ Θ' → Q (znF l) Θ') : w2_X39_zone ω d G s Θ Q := sorry
end DMX

/-! 63.dc.lean.txt -/
/-! dates: all -/
set_option maxRecDepth 100000
def MINL : Int := -9223372036854775808
def dr137 (day mo yr h m s : Int) (us : List Wo) : Int :=
  if day < 1 ∨ mo < 0 ∨ yr < 1900 ∨ 2999 < yr ∨ h < 0 ∨ m < 0 ∨ s < 0 ∨ mdF yr mo < day then MINL else ((((86400 * dyF yr mo day) + (3600 * h)) + (60 * m)) + s) - (60 * znF (datom us).1)
def dr99 (day mo yr h : Int) (us : List Wo) : Int :=
  if dsg 58 (datom us).2 then dr137 day mo yr h (twF (datom us).1 60) (twF (datom (datom us).2.tail).1 61) (datom (datom us).2.tail).2 else dr137 day mo yr h (twF (datom us).1 60) 0 (datom us).2
def dr53 (day : Int) (us : List Wo) : Int :=
  if dsg 58 (datom (datom (datom us).2).2).2 then dr99 day (moF (datom us).1) (yrF (datom (datom us).2).1) (twF (datom (datom (datom us).2).2).1 24) (datom (datom (datom us).2).2).2.tail else MINL
def dr30 (l : List Int) (us : List Wo) : Int := dr53 (if len l < 3 ∧ digB l = true then nmB l else -1) us
/-- what a date's words say -/
def drF (us : List Wo) : Int := if (datom us).1 ≠ [] ∧ dsg 44 (datom us).2 then dr30 (datom (datom us).2.tail).1 (datom (datom us).2.tail).2 else dr30 (datom us).1 (datom us).2
/-- words as they come: signs have a character, all are bytes, none is long -/
def okW (M : Int) (us : List Wo) : Prop := ∀ w ∈ us, (w.1 = 12 → 0 < len w.2) ∧ byt w.2 ∧ len w.2 ≤ M
theorem okW.tl {M : Int} {us : List Wo} (h : okW M us) : okW M us.tail := fun w hw => h w (List.mem_of_mem_tail hw)
theorem okW.at2 {M : Int} {us : List Wo} (h : okW M us) (hM : 0 ≤ M) : okW M (datom us).2 ∧ byt (datom us).1 ∧ len (datom us).1 ≤ M := sorry
theorem okW.sg {M : Int} {us : List Wo} (h : okW M us) : sgO us := fun w hw => (h w hw).1
theorem zn3_in (t : List Int) : -480 ≤ zn3 t ∧ zn3 t ≤ 0 := sorry
theorem znF_in (l : List Int) : -2000 ≤ znF l ∧ znF l ≤ 2000 := sorry
theorem u_X39_read {ω : AO} {d G : Nat} {Θ : Th} {a M : Int} {us : List Wo} {Q : Int → Th → Prop} (hd : 12 ≤ d) (h : DT ω Θ a us 0) (hk : okW M us) (hM : 0 ≤ M ∧ M ≤ 1000000) (hG : 5 * M + 110 ≤ (G : Int)) (hQ : ∀ Θ', GrX (· = a) Θ Θ' → Q (drF us) Θ') : w2_X39_read ω d G a Θ Q := sorry
theorem u_X39_init {ω : AO} {d G : Nat} {Θ : Th} {a p c e x y : Int} {rs : List Int} {ws : List Wo} {Q : Th → Prop} (hd : 4 ≤ d) (h : xo Θ a = (47, [x, y, 0], 0, 0)) (hf : ¬ fz Θ a) (hp : xo Θ p = (3, rs, c, e)) (hw : all2 (CutO ω Θ) rs ws) (hy : -1 ≤ y) (hQ : ∀ Θ', GrX (· = a) Θ Θ' → DT ω Θ' a ws 0 → Q Θ') : w2_X39_init ω d G a p Θ Q := sorry
/-! 64.aa.lean.txt -/
/-! segments -/
set_option maxRecDepth 100000
def w2_X1_withoutComments (ω : AO) (d G : Nat) (l0 : Int) (Θ : Th) (Q : Int → Th → Prop) : Prop := Hid (∀ S, bel S → R2 ω S Θ → Ctr ω yX1_withoutComments cX1_withoutComments 4 (some (.object "java/util/ArrayList")) d G [(2, l0)] S (eA S (q2 ω Θ Q)))
def w2_X29_init (ω : AO) (d G : Nat) (l0 : Int) (Θ : Th) (Q : Th → Prop) : Prop := Hid (∀ S, bel S → R2 ω S Θ → Ctr ω yX29_init cX29_init 1 none d G [(2, l0)] S (eU S (q2U ω Θ Q)))
def w2_X29_address (ω : AO) (d G : Nat) (l0 : Int) (Θ : Th) (Q : Int → Th → Prop) : Prop := Hid (∀ S, bel S → R2 ω S Θ → Ctr ω yX29_address cX29_address 1 (some (.object "java/lang/String")) d G [(2, l0)] S (eA S (q2 ω Θ Q)))
def w2_X26_init (ω : AO) (d G : Nat) (l0 : Int) (Θ : Th) (Q : Th → Prop) : Prop := Hid (∀ S, bel S → R2 ω S Θ → Ctr ω yX26_init cX26_init 1 none d G [(2, l0)] S (eU S (q2U ω Θ Q)))
def w2_X26_isName (ω : AO) (d G : Nat) (l0 l1 : Int) (Θ : Th) (Q : Int → Th → Prop) : Prop := Hid (∀ S, bel S → R2 ω S Θ → Ctr ω yX26_isName cX26_isName 4 (some .boolean) d G [(2, l0), (0, l1)] S (eZ S (q2 ω Θ Q)))
def w2_X26_hasColon (ω : AO) (d G : Nat) (l0 l1 l2 : Int) (Θ : Th) (Q : Int → Th → Prop) : Prop := Hid (∀ S, bel S → R2 ω S Θ → Ctr ω yX26_hasColon cX26_hasColon 5 (some .boolean) d G [(2, l0), (0, l1), (0, l2)] S (eZ S (q2 ω Θ Q)))
def w2_X26_behindRoute (ω : AO) (d G : Nat) (l0 l1 l2 : Int) (Θ : Th) (Q : Int → Th → Prop) : Prop := Hid (∀ S, bel S → R2 ω S Θ → Ctr ω yX26_behindRoute cX26_behindRoute 5 (some .int) d G [(2, l0), (0, l1), (0, l2)] S (eI S (q2 ω Θ Q)))
def w2_X26_dotted (ω : AO) (d G : Nat) (l0 l1 l2 l3 l4 : Int) (Θ : Th) (Q : Int → Th → Prop) : Prop := Hid (∀ S, bel S → R2 ω S Θ → Ctr ω yX26_dotted cX26_dotted 6 (some .int) d G [(2, l0), (0, l1), (0, l2), (0, l3), (2, l4)] S (eI S (q2 ω Θ Q)))
def w2_X26_spec (ω : AO) (d G : Nat) (l0 l1 l2 l3 : Int) (Θ : Th) (Q : Int → Th → Prop) : Prop := Hid (∀ S, bel S → R2 ω S Θ → Ctr ω yX26_spec cX26_spec 9 (some .boolean) d G [(2, l0), (2, l1), (0, l2), (0, l3)] S (eZ S (q2 ω Θ Q)))
def w2_X26_title (ω : AO) (d G : Nat) (l0 l1 : Int) (Θ : Th) (Q : Int → Th → Prop) : Prop := Hid (∀ S, bel S → R2 ω S Θ → Ctr ω yX26_title cX26_title 4 (some (.object "java/lang/String")) d G [(2, l0), (0, l1)] S (eA S (q2 ω Θ Q)))
def w2_X26_mailbox (ω : AO) (d G : Nat) (l0 : Int) (Θ : Th) (Q : Th → Prop) : Prop := Hid (∀ S, bel S → R2 ω S Θ → Ctr ω yX26_mailbox cX26_mailbox 7 none d G [(2, l0)] S (eU S (q2U ω Θ Q)))
def w2_X26_end (ω : AO) (d G : Nat) (l0 l1 : Int) (Θ : Th) (Q : Th → Prop) : Prop := Hid (∀ S, bel S → R2 ω S Θ → Ctr ω yX26_end cX26_end 2 none d G [(2, l0), (0, l1)] S (eU S (q2U ω Θ Q)))
def w2_X26_read (ω : AO) (d G : Nat) (l0 l1 : Int) (Θ : Th) (Q : Th → Prop) : Prop := Hid (∀ S, bel S → R2 ω S Θ → Ctr ω yX26_read cX26_read 4 none d G [(2, l0), (2, l1)] S (eU S (q2U ω Θ Q)))
theorem lm_X1_3 : ILk RX1 3 yJ7_init cJ7_init 1 0 := sorry
theorem lm_X1_9 : ILk RX1 9 yX27_init cX27_init 2 1 := sorry
theorem lm_X1_12 : VLk RX1 12 40 yX27_all cX27_all 3 (some (.object "java/util/ArrayList")) 0 := sorry
theorem lm_X1_16 : VLk RX1 16 3 yJ7_iterator cJ7_iterator 1 (some (.object "java/util/Iterato\x72")) 0 := sorry
theorem lf_X1_20_14i : FLkI RX1 20 14 ⟨"java/util/Iterato\x72", "hasNext", "()Z"⟩ yJ31_hasNext cJ31_hasNext 1 (some .boolean) 0 := sorry
theorem lf_X1_26_14i : FLkI RX1 26 14 ⟨"java/util/Iterato\x72", "next", "()Ljava/lang/Object;"⟩ yJ31_next cJ31_next 3 (some (.object "java/lang/Object")) 0 := sorry
theorem lr_X1_32_41 : FLkR RX1 32 41 0 (.object "MailWorks$Kind") := sorry
theorem lm_X1_41 : VLk RX1 41 3 yJ7_add cJ7_add 2 (some .boolean) 1 := sorry
theorem lf_X29_9_42 : FLk RX29 9 42 0 (.object "java/lang/String") false := sorry
theorem lf_X29_15_42 : FLk RX29 15 42 1 (.object "java/lang/String") false := sorry
theorem lf_X29_18_42 : FLk RX29 18 42 2 (.object "java/lang/String") false := sorry
theorem lr_X29_18_42 : FLkR RX29 18 42 2 (.object "java/lang/String") := sorry
theorem lm_X29_21 : VLk RX29 21 2 yJ2_isEmpty cJ2_isEmpty 1 (some .boolean) 0 := sorry
theorem lm_X29_29 : ILk RX29 29 yJ1_init cJ1_init 1 0 := sorry
theorem lr_X29_15_42 : FLkR RX29 15 42 1 (.object "java/lang/String") := sorry
theorem lm_X29_30 : VLk RX29 30 1 yJ1_append_3 cJ1_append_3 2 (some (.object "java/lang/StringBuilde\x72")) 1 := sorry
theorem lm_X29_36 : VLk RX29 36 1 yJ1_toString cJ1_toString 1 (some (.object "java/lang/String")) 0 := sorry
theorem lm_X26_11 : ILk RX26 11 yJ7_init cJ7_init 1 0 := sorry
theorem lf_X26_12_39 : FLk RX26 12 39 0 (.object "java/util/ArrayList") true := sorry
theorem lf_X26_18_39 : FLk RX26 18 39 1 (.object "java/util/ArrayList") true := sorry
theorem lm_X26_25 : VLk RX26 25 3 yJ7_get cJ7_get 2 (some (.object "java/lang/Object")) 1 := sorry
theorem lm_X26_140 : VLk RX26 140 41 yX28_isPlain cX28_isPlain 1 (some .boolean) 0 := sorry
theorem lm_X26_55 : VLk RX26 55 41 yX28_is cX28_is 2 (some .boolean) 1 := sorry
theorem lr_X26_18_39 : FLkR RX26 18 39 1 (.object "java/util/ArrayList") := sorry
theorem lm_X26_105 : VLk RX26 105 41 yX28_isAtom cX28_isAtom 1 (some .boolean) 0 := sorry
theorem lm_X26_108 : VLk RX26 108 39 yX26_hasColon cX26_hasColon 5 (some .boolean) 2 := sorry
theorem lr_X26_44_41 : FLkR RX26 44 41 1 (.object "java/lang/String") := sorry
theorem lm_X26_131 : VLk RX26 131 1 yJ1_append_3 cJ1_append_3 2 (some (.object "java/lang/StringBuilde\x72")) 1 := sorry
theorem lm_X26_143 : VLk RX26 143 1 yJ1_append cJ1_append 2 (some (.object "java/lang/StringBuilde\x72")) 1 := sorry
theorem lm_X26_114 : ILk RX26 114 yJ1_init cJ1_init 1 0 := sorry
theorem lm_X26_115 : VLk RX26 115 39 yX26_dotted cX26_dotted 6 (some .int) 4 := sorry
theorem lm_X26_119 : VLk RX26 119 1 yJ1_toString cJ1_toString 1 (some (.object "java/lang/String")) 0 := sorry
theorem lf_X26_123_42 : FLk RX26 123 42 1 (.object "java/lang/String") false := sorry
theorem lr_X26_31_41 : FLkR RX26 31 41 0 (.object "MailWorks$Kind") := sorry
theorem lf_X26_137_42 : FLk RX26 137 42 2 (.object "java/lang/String") false := sorry
theorem lm_X26_40 : VLk RX26 40 3 yJ7_isEmpty cJ7_isEmpty 1 (some .boolean) 0 := sorry
theorem ln_X26_84 : NLk RX26 84 yX29_init cX29_init 1 none 0 := sorry
theorem lm_X26_21 : VLk RX26 21 3 yJ7_size cJ7_size 1 (some .int) 0 := sorry
theorem lm_X26_85 : SLk RX26 85 yX26_isName cX26_isName 4 (some .boolean) 2 := sorry
theorem lm_X26_93 : VLk RX26 93 39 yX26_spec cX26_spec 9 (some .boolean) 3 := sorry
theorem lm_X26_89 : VLk RX26 89 39 yX26_behindRoute cX26_behindRoute 5 (some .int) 2 := sorry
theorem lr_X26_48_39 : FLkR RX26 48 39 2 (.object "java/lang/String") := sorry
theorem lm_X26_97 : SLk RX26 97 yX26_title cX26_title 4 (some (.object "java/lang/String")) 2 := sorry
theorem lf_X26_103_42 : FLk RX26 103 42 0 (.object "java/lang/String") false := sorry
theorem lr_X26_12_39 : FLkR RX26 12 39 0 (.object "java/util/ArrayList") := sorry
theorem lm_X26_69 : VLk RX26 69 3 yJ7_add cJ7_add 2 (some .boolean) 1 := sorry
theorem lm_X26_76 : VLk RX26 76 39 yX26_mailbox cX26_mailbox 7 none 0 := sorry
theorem lf_X26_73_39 : FLk RX26 73 39 4 .boolean false := sorry
theorem lm_X26_79 : VLk RX26 79 3 yJ7_clear cJ7_clear 4 none 0 := sorry
theorem lf_X26_48_39 : FLk RX26 48 39 2 (.object "java/lang/String") false := sorry
theorem lf_X26_51_39 : FLk RX26 51 39 3 .boolean false := sorry
theorem lm_X26_65 : VLk RX26 65 39 yX26_end cX26_end 2 none 1 := sorry
theorem lr_X26_51_39 : FLkR RX26 51 39 3 .boolean := sorry
theorem lm_X26_59 : VLk RX26 59 2 yJ2_charAt cJ2_charAt 2 (some .char) 1 := sorry
def W2_X1_withoutComments_23 (ω : AO) (d G : Nat) (l1 l2 : Int) (g : Nat) (Θ : Th) (Q : Int → Th → Prop) : Prop := Hid (SJ2 ω yX1_withoutComments cX1_withoutComments 4 (some (.object "java/util/ArrayList")) d G (fun Sz Θz => (eA Sz (q2 ω Θz Q))) 23 [vN, (2, l1), (2, l2), vN] [] g Θ)
set_option maxHeartbeats 4000000 in
theorem s2_X1_withoutComments {ω : AO} {d G : Nat} {l0 : Int} {Θ : Th} {Q : Int → Th → Prop} (hB : (0 + 1 ≤ G) ∧ ∀ (v0 : Int) (Θ0 : Th) (u0 : nt Θ ≤ v0 ∧ 0 ≤ v0) (b0 : Bl Θ) (t0 : Θ0 = nu Θ v0 (203, [], 0, 0)), (1 ≤ d) ∧ (4 ≤ d) ∧ ∀ (k4 : Int) (Θ4 : Th) (t4 : Θ4 = uq Θ0 v0 (3, [], 0, k4)), (0 + 1 + 1 ≤ G) ∧ ∀ (v8 : Int) (Θ8 : Th) (u8 : nt Θ4 ≤ v8 ∧ 0 ≤ v8) (b8 : Bl Θ4) (t8 : Θ8 = nu Θ4 v8 (40, [-1, -1, 0], 0, 0)), ∃ G13 : Nat, (0 + 1 + 1 + G13 ≤ G) ∧ w2_X27_init ω (d - 1) G13 v8 l0 Θ8 (fun Θ13 => ∀ (L13 : Le Θ8 Θ13), ∃ G16 : Nat, (0 + 1 + 1 + G13 + G16 ≤ G) ∧ w2_X27_all ω (d - 1) G16 v8 Θ13 (fun x16 Θ16 => ∀ (L16 : Le Θ13 Θ16) (r16 : -1 ≤ x16), (kd Θ16 x16 = 3) ∧ ∃ G19 : Nat, (0 + 1 + 1 + G13 + G16 + G19 ≤ G) ∧ w2_J7_iterator ω (d - 1) G19 x16 Θ16 (fun x19 Θ19 => ∀ (L19 : Le Θ16 Θ19) (r19 : -1 ≤ x19), W2_X1_withoutComments_23 ω d G v0 x19 (0 + 1 + 1 + G13 + G16 + G19) Θ19 Q)))) : w2_X1_withoutComments ω d G l0 Θ Q := sorry
set_option maxHeartbeats 4000000 in
theorem s2_X1_withoutComments_23 {ω : AO} {d G : Nat} {l1 l2 : Int} {g : Nat} {Θ : Th} {Q : Int → Th → Prop} (hB : (1 ≤ d) ∧ (kd Θ l2 = 14) ∧ ∃ G24 : Nat, (g + G24 ≤ G) ∧ w2_J31_hasNext ω (d - 1) G24 l2 Θ (fun x24 Θ24 => ∀ (L24 : Le Θ Θ24) (r24 : x24 = 0 ∨ x24 = 1), (∀ (c29 : x24 = 0), (g + G24 ≤ G) ∧ (-1 ≤ l1) ∧ Q l1 Θ24) ∧ (∀ (c29 : ¬ x24 = 0), ∃ G33 : Nat, (g + G24 + G33 ≤ G) ∧ w2_J31_next ω (d - 1) G33 l2 Θ24 (fun x33 Θ33 => ∀ (L33 : Le Θ24 Θ33) (r33 : -1 ≤ x33), (x33 < 0 ∨ kd Θ33 x33 ∈ [41]) ∧ (kd Θ33 x33 = 41) ∧ ∀ (v43 : Int) (e43 : v43 = gt (vv Θ33 x33) 0) (r43 : -1 ≤ v43), (-1 ≤ ((ω.2.2.1 "#V" 13 : Int) - 1)) ∧ (∀ (c49 : v43 = ((ω.2.2.1 "#V" 13 : Int) - 1)), W2_X1_withoutComments_23 ω d G l1 l2 (g + G24 + G33) Θ33 Q) ∧ (∀ (c49 : ¬ v43 = ((ω.2.2.1 "#V" 13 : Int) - 1)), (kd Θ33 l1 = 3) ∧ (¬ fz Θ33 l1) ∧ (rf Θ33 x33) ∧ (adC (cp Θ33 l1) (len (vv Θ33 l1)) ≤ 60000000) ∧ (7 ≤ d) ∧ (g + G24 + G33 + (adC (cp Θ33 l1) (len (vv Θ33 l1)) - cp Θ33 l1).toNat ≤ G) ∧ ∀ (k54 : Int) (Θ54 : Th) (t54 : Θ54 = uq Θ33 l1 (3, vv Θ33 l1 ++ [x33], adC (cp Θ33 l1) (len (vv Θ33 l1)), k54)), W2_X1_withoutComments_23 ω d G l1 l2 (g + G24 + G33 + (adC (cp Θ33 l1) (len (vv Θ33 l1)) - cp Θ33 l1).toNat) Θ54 Q))))) : W2_X1_withoutComments_23 ω d G l1 l2 g Θ Q := sorry
set_option maxHeartbeats 4000000 in
theorem s2_X29_init {ω : AO} {d G : Nat} {l0 : Int} {Θ : Th} {Q : Th → Prop} (hB : (1 ≤ d) ∧ (0 ≤ l0) ∧ ∀ (v5 : Int) (h5 : Str Θ v5 []), (kd Θ l0 = 42) ∧ (¬ fz Θ l0) ∧ (-1 ≤ v5) ∧ ∀ (Θ7 : Th) (t7 : Θ7 = pf Θ l0 0 v5), ∀ (v11 : Int) (h11 : Str Θ7 v11 []), (¬ fz Θ7 l0) ∧ (-1 ≤ v11) ∧ ∀ (Θ13 : Th) (t13 : Θ13 = pf Θ7 l0 1 v11), ∀ (v17 : Int) (h17 : Str Θ13 v17 []), (¬ fz Θ13 l0) ∧ (-1 ≤ v17) ∧ ∀ (Θ19 : Th) (t19 : Θ19 = pf Θ13 l0 2 v17), Q Θ19) : w2_X29_init ω d G l0 Θ Q := sorry
set_option maxHeartbeats 4000000 in
theorem s2_X29_address {ω : AO} {d G : Nat} {l0 : Int} {Θ : Th} {Q : Int → Th → Prop} (hB : (kd Θ l0 = 42) ∧ ∀ (v1 : Int) (e1 : v1 = gt (vv Θ l0) 2) (r1 : -1 ≤ v1), (1 ≤ d) ∧ (kd Θ v1 = 2) ∧ ∀ (x4 : Int) (e4 : x4 = if vv Θ v1 = [] then 1 else 0) (r4 : x4 = 0 ∨ x4 = 1), (∀ (c7 : x4 = 0), (0 + 1 ≤ G) ∧ ∀ (v17 : Int) (Θ17 : Th) (u17 : nt Θ ≤ v17 ∧ 0 ≤ v17) (b17 : Bl Θ) (t17 : Θ17 = nu Θ v17 (201, [], 0, 0)), (3 ≤ d) ∧ (0 + 1 + 5 ≤ G) ∧ ∀ (Θ21 : Th) (t21 : Θ21 = uq Θ17 v17 (1, [], 16, 0)), ∀ (v25 : Int) (e25 : v25 = gt (vv Θ21 l0) 1) (r25 : -1 ≤ v25), (kd Θ21 v25 = 2) ∧ (¬ fz Θ21 v17) ∧ (bC (cp Θ21 v17) (len (vv Θ21 v17) + len (vv Θ21 v25)) ≤ 20000000) ∧ (11 ≤ d) ∧ (0 + 1 + 5 + (bK (bC (cp Θ21 v17) (len (vv Θ21 v17) + len (vv Θ21 v25))) (max (cx Θ21 v17) (wide (vv Θ21 v25))) - bK (cp Θ21 v17) (cx Θ21 v17)).toNat ≤ G) ∧ ∀ (Θ28 : Th) (t28 : Θ28 = uq Θ21 v17 (1, vv Θ21 v17 ++ vv Θ21 v25, bC (cp Θ21 v17) (len (vv Θ21 v17) + len (vv Θ21 v25)), max (cx Θ21 v17) (wide (vv Θ21 v25)))), ∀ (v31 : Int) (h31 : Str Θ28 v31 [64]), (bC (cp Θ28 v17) (len (vv Θ28 v17) + len (vv Θ28 v31)) ≤ 20000000) ∧ (0 + 1 + 5 + (bK (bC (cp Θ21 v17) (len (vv Θ21 v17) + len (vv Θ21 v25))) (max (cx Θ21 v17) (wide (vv Θ21 v25))) - bK (cp Θ21 v17) (cx Θ21 v17)).toNat + (bK (bC (cp Θ28 v17) (len (vv Θ28 v17) + len (vv Θ28 v31))) (max (cx Θ28 v17) (wide (vv Θ28 v31))) - bK (cp Θ28 v17) (cx Θ28 v17)).toNat ≤ G) ∧ ∀ (Θ33 : Th) (t33 : Θ33 = uq Θ28 v17 (1, vv Θ28 v17 ++ vv Θ28 v31, bC (cp Θ28 v17) (len (vv Θ28 v17) + len (vv Θ28 v31)), max (cx Θ28 v17) (wide (vv Θ28 v31)))), ∀ (v37 : Int) (e37 : v37 = gt (vv Θ33 l0) 2) (r37 : -1 ≤ v37), (kd Θ33 v37 = 2) ∧ (bC (cp Θ33 v17) (len (vv Θ33 v17) + len (vv Θ33 v37)) ≤ 20000000) ∧ (0 + 1 + 5 + (bK (bC (cp Θ21 v17) (len (vv Θ21 v17) + len (vv Θ21 v25))) (max (cx Θ21 v17) (wide (vv Θ21 v25))) - bK (cp Θ21 v17) (cx Θ21 v17)).toNat + (bK (bC (cp Θ28 v17) (len (vv Θ28 v17) + len (vv Θ28 v31))) (max (cx Θ28 v17) (wide (vv Θ28 v31))) - bK (cp Θ28 v17) (cx Θ28 v17)).toNat + (bK (bC (cp Θ33 v17) (len (vv Θ33 v17) + len (vv Θ33 v37))) (max (cx Θ33 v17) (wide (vv Θ33 v37))) - bK (cp Θ33 v17) (cx Θ33 v17)).toNat ≤ G) ∧ ∀ (Θ40 : Th) (t40 : Θ40 = uq Θ33 v17 (1, vv Θ33 v17 ++ vv Θ33 v37, bC (cp Θ33 v17) (len (vv Θ33 v17) + len (vv Θ33 v37)), max (cx Θ33 v17) (wide (vv Θ33 v37)))), (len (vv Θ40 v17) ≤ 15000000) ∧ (8 ≤ d) ∧ (0 + 1 + 5 + (bK (bC (cp Θ21 v17) (len (vv Θ21 v17) + len (vv Θ21 v25))) (max (cx Θ21 v17) (wide (vv Θ21 v25))) - bK (cp Θ21 v17) (cx Θ21 v17)).toNat + (bK (bC (cp Θ28 v17) (len (vv Θ28 v17) + len (vv Θ28 v31))) (max (cx Θ28 v17) (wide (vv Θ28 v31))) - bK (cp Θ28 v17) (cx Θ28 v17)).toNat + (bK (bC (cp Θ33 v17) (len (vv Θ33 v17) + len (vv Θ33 v37))) (max (cx Θ33 v17) (wide (vv Θ33 v37))) - bK (cp Θ33 v17) (cx Θ33 v17)).toNat + (len (vv Θ40 v17) + 5).toNat ≤ G) ∧ ∀ (x43 : Int) (Θ43 : Th) (e43 : NewS Θ40 Θ43 x43 (vv Θ40 v17)) (n43 : nt Θ40 ≤ x43), Q x43 Θ43) ∧ (∀ (c7 : ¬ x4 = 0), ∀ (v11 : Int) (e11 : v11 = gt (vv Θ l0) 1) (r11 : -1 ≤ v11), Q v11 Θ)) : w2_X29_address ω d G l0 Θ Q := sorry
set_option maxHeartbeats 4000000 in
theorem s2_X26_init {ω : AO} {d G : Nat} {l0 : Int} {Θ : Th} {Q : Th → Prop} (hB : (1 ≤ d) ∧ (0 ≤ l0) ∧ (0 + 1 ≤ G) ∧ ∀ (v5 : Int) (Θ5 : Th) (u5 : nt Θ ≤ v5 ∧ 0 ≤ v5) (b5 : Bl Θ) (t5 : Θ5 = nu Θ v5 (203, [], 0, 0)), (4 ≤ d) ∧ ∀ (k9 : Int) (Θ9 : Th) (t9 : Θ9 = uq Θ5 v5 (3, [], 0, k9)), (kd Θ9 l0 = 39) ∧ (¬ fz Θ9 l0) ∧ ∀ (Θ12 : Th) (t12 : Θ12 = pf Θ9 l0 0 v5), (0 + 1 + 1 ≤ G) ∧ ∀ (v16 : Int) (Θ16 : Th) (u16 : nt Θ12 ≤ v16 ∧ 0 ≤ v16) (b16 : Bl Θ12) (t16 : Θ16 = nu Θ12 v16 (203, [], 0, 0)), ∀ (k20 : Int) (Θ20 : Th) (t20 : Θ20 = uq Θ16 v16 (3, [], 0, k20)), (¬ fz Θ20 l0) ∧ ∀ (Θ23 : Th) (t23 : Θ23 = pf Θ20 l0 1 v16), Q Θ23) : w2_X26_init ω d G l0 Θ Q := sorry
def W2_X26_isName_4 (ω : AO) (d G : Nat) (l0 l1 l2 l3 : Int) (g : Nat) (Θ : Th) (Q : Int → Th → Prop) : Prop := Hid (SJ2 ω yX26_isName cX26_isName 4 (some .boolean) d G (fun Sz Θz => (eZ Sz (q2 ω Θz Q))) 4 [(2, l0), (0, l1), (0, l2), (0, l3)] [] g Θ)
def W2_X26_isName_47 (ω : AO) (d G : Nat) (l0 l1 l3 : Int) (g : Nat) (Θ : Th) (Q : Int → Th → Prop) : Prop := Hid (SJ2 ω yX26_isName cX26_isName 4 (some .boolean) d G (fun Sz Θz => (eZ Sz (q2 ω Θz Q))) 47 [(2, l0), (0, l1), vN, (0, l3)] [] g Θ)
def W2_X26_isName_43 (ω : AO) (d G : Nat) (l0 l1 l3 : Int) (g : Nat) (Θ : Th) (Q : Int → Th → Prop) : Prop := Hid (SJ2 ω yX26_isName cX26_isName 4 (some .boolean) d G (fun Sz Θz => (eZ Sz (q2 ω Θz Q))) 43 [(2, l0), (0, l1), vN, (0, l3)] [] g Θ)
set_option maxHeartbeats 4000000 in
theorem s2_X26_isName {ω : AO} {d G : Nat} {l0 l1 : Int} {Θ : Th} {Q : Int → Th → Prop} (hB : W2_X26_isName_4 ω d G l0 l1 1 0 (0) Θ Q) : w2_X26_isName ω d G l0 l1 Θ Q := sorry
set_option maxHeartbeats 4000000 in
theorem s2_X26_isName_4 {ω : AO} {d G : Nat} {l0 l1 l2 l3 : Int} {g : Nat} {Θ : Th} {Q : Int → Th → Prop} (hB : (-2147483648 ≤ l3 ∧ l3 < 2147483648) ∧ (-2147483648 ≤ l1 ∧ l1 < 2147483648) ∧ (∀ (c6 : l1 ≤ l3), (g ≤ G) ∧ (l2 = 0 ∨ l2 = 1) ∧ Q l2 Θ) ∧ (∀ (c6 : l3 < l1), (-2147483648 ≤ l2 ∧ l2 < 2147483648) ∧ (∀ (c10 : l2 = 0), W2_X26_isName_47 ω d G l0 l1 l3 (g) Θ Q) ∧ (∀ (c10 : ¬ l2 = 0), (1 ≤ d) ∧ (kd Θ l0 = 3) ∧ (0 ≤ l3 ∧ l3 < len (vv Θ l0)) ∧ (3 ≤ d) ∧ (g ≤ G) ∧ ∀ (x15 : Int) (e15 : x15 = gt (vv Θ l0) l3) (r15 : -1 ≤ x15), (x15 < 0 ∨ kd Θ x15 ∈ [41]) ∧ (kd Θ x15 = 41) ∧ ∃ G21 : Nat, (g + G21 ≤ G) ∧ w2_X28_isPlain ω (d - 1) G21 x15 Θ (fun x21 Θ21 => ∀ (L21 : Le Θ Θ21) (r21 : x21 = 0 ∨ x21 = 1), (∀ (c24 : ¬ x21 = 0), W2_X26_isName_43 ω d G l0 l1 l3 (g + G21) Θ21 Q) ∧ (∀ (c24 : x21 = 0), (0 ≤ l3 ∧ l3 < len (vv Θ21 l0)) ∧ (g + G21 ≤ G) ∧ ∀ (x29 : Int) (e29 : x29 = gt (vv Θ21 l0) l3) (r29 : -1 ≤ x29), (x29 < 0 ∨ kd Θ21 x29 ∈ [41]) ∧ (kd Θ21 x29 = 41) ∧ ∃ G37 : Nat, (g + G21 + G37 ≤ G) ∧ w2_X28_is ω (d - 1) G37 x29 46 Θ21 (fun x37 Θ37 => ∀ (L37 : Le Θ21 Θ37) (r37 : x37 = 0 ∨ x37 = 1), (∀ (c40 : x37 = 0), W2_X26_isName_47 ω d G l0 l1 l3 (g + G21 + G37) Θ37 Q) ∧ (∀ (c40 : ¬ x37 = 0), W2_X26_isName_43 ω d G l0 l1 l3 (g + G21 + G37) Θ37 Q))))))) : W2_X26_isName_4 ω d G l0 l1 l2 l3 g Θ Q := sorry
set_option maxHeartbeats 4000000 in
theorem s2_X26_isName_47 {ω : AO} {d G : Nat} {l0 l1 l3 : Int} {g : Nat} {Θ : Th} {Q : Int → Th → Prop} (hB : W2_X26_isName_4 ω d G l0 l1 0 ((l3 + 1)) (g) Θ Q) : W2_X26_isName_47 ω d G l0 l1 l3 g Θ Q := sorry
set_option maxHeartbeats 4000000 in
theorem s2_X26_isName_43 {ω : AO} {d G : Nat} {l0 l1 l3 : Int} {g : Nat} {Θ : Th} {Q : Int → Th → Prop} (hB : W2_X26_isName_4 ω d G l0 l1 1 ((l3 + 1)) (g) Θ Q) : W2_X26_isName_43 ω d G l0 l1 l3 g Θ Q := sorry
def W2_X26_hasColon_5 (ω : AO) (d G : Nat) (l0 l2 l3 l4 : Int) (g : Nat) (Θ : Th) (Q : Int → Th → Prop) : Prop := Hid (SJ2 ω yX26_hasColon cX26_hasColon 5 (some .boolean) d G (fun Sz Θz => (eZ Sz (q2 ω Θz Q))) 5 [(2, l0), vN, (0, l2), (0, l3), (0, l4)] [] g Θ)
def W2_X26_hasColon_35 (ω : AO) (d G : Nat) (l0 l2 l4 : Int) (g : Nat) (Θ : Th) (Q : Int → Th → Prop) : Prop := Hid (SJ2 ω yX26_hasColon cX26_hasColon 5 (some .boolean) d G (fun Sz Θz => (eZ Sz (q2 ω Θz Q))) 35 [(2, l0), vN, (0, l2), vN, (0, l4)] [] g Θ)
set_option maxHeartbeats 4000000 in
theorem s2_X26_hasColon {ω : AO} {d G : Nat} {l0 l1 l2 : Int} {Θ : Th} {Q : Int → Th → Prop} (hB : W2_X26_hasColon_5 ω d G l0 l2 0 l1 (0) Θ Q) : w2_X26_hasColon ω d G l0 l1 l2 Θ Q := sorry
set_option maxHeartbeats 4000000 in
theorem s2_X26_hasColon_5 {ω : AO} {d G : Nat} {l0 l2 l3 l4 : Int} {g : Nat} {Θ : Th} {Q : Int → Th → Prop} (hB : (-2147483648 ≤ l4 ∧ l4 < 2147483648) ∧ (-2147483648 ≤ l2 ∧ l2 < 2147483648) ∧ (∀ (c8 : l2 ≤ l4), (g ≤ G) ∧ (l3 = 0 ∨ l3 = 1) ∧ Q l3 Θ) ∧ (∀ (c8 : l4 < l2), (-2147483648 ≤ l3 ∧ l3 < 2147483648) ∧ (∀ (c12 : ¬ l3 = 0), W2_X26_hasColon_35 ω d G l0 l2 l4 (g) Θ Q) ∧ (∀ (c12 : l3 = 0), (kd Θ l0 = 39) ∧ ∀ (v16 : Int) (e16 : v16 = gt (vv Θ l0) 1) (r16 : -1 ≤ v16), (1 ≤ d) ∧ (kd Θ v16 = 3) ∧ (0 ≤ l4 ∧ l4 < len (vv Θ v16)) ∧ (3 ≤ d) ∧ (g ≤ G) ∧ ∀ (x21 : Int) (e21 : x21 = gt (vv Θ v16) l4) (r21 : -1 ≤ x21), (x21 < 0 ∨ kd Θ x21 ∈ [41]) ∧ (kd Θ x21 = 41) ∧ ∃ G29 : Nat, (g + G29 ≤ G) ∧ w2_X28_is ω (d - 1) G29 x21 58 Θ (fun x29 Θ29 => ∀ (L29 : Le Θ Θ29) (r29 : x29 = 0 ∨ x29 = 1), (∀ (c32 : x29 = 0), W2_X26_hasColon_5 ω d G l0 l2 0 ((l4 + 1)) (g + G29) Θ29 Q) ∧ (∀ (c32 : ¬ x29 = 0), W2_X26_hasColon_35 ω d G l0 l2 l4 (g + G29) Θ29 Q))))) : W2_X26_hasColon_5 ω d G l0 l2 l3 l4 g Θ Q := sorry
set_option maxHeartbeats 4000000 in
theorem s2_X26_hasColon_35 {ω : AO} {d G : Nat} {l0 l2 l4 : Int} {g : Nat} {Θ : Th} {Q : Int → Th → Prop} (hB : W2_X26_hasColon_5 ω d G l0 l2 1 ((l4 + 1)) (g) Θ Q) : W2_X26_hasColon_35 ω d G l0 l2 l4 g Θ Q := sorry
def W2_X26_behindRoute_2 (ω : AO) (d G : Nat) (l0 l1 l2 l3 : Int) (g : Nat) (Θ : Th) (Q : Int → Th → Prop) : Prop := Hid (SJ2 ω yX26_behindRoute cX26_behindRoute 5 (some .int) d G (fun Sz Θz => (eI Sz (q2 ω Θz Q))) 2 [(2, l0), (0, l1), (0, l2), (0, l3), vN] [] g Θ)
set_option maxHeartbeats 4000000 in
theorem s2_X26_behindRoute {ω : AO} {d G : Nat} {l0 l1 l2 : Int} {Θ : Th} {Q : Int → Th → Prop} (hB : W2_X26_behindRoute_2 ω d G l0 l1 l2 l1 (0) Θ Q) : w2_X26_behindRoute ω d G l0 l1 l2 Θ Q := sorry
set_option maxHeartbeats 4000000 in
theorem s2_X26_behindRoute_2 {ω : AO} {d G : Nat} {l0 l1 l2 l3 : Int} {g : Nat} {Θ : Th} {Q : Int → Th → Prop} (hB : (-2147483648 ≤ l3 ∧ l3 < 2147483648) ∧ (-2147483648 ≤ l2 ∧ l2 < 2147483648) ∧ (∀ (c4 : l2 ≤ l3), (g ≤ G) ∧ (-2147483648 ≤ l1 ∧ l1 < 2147483648) ∧ Q l1 Θ) ∧ (∀ (c4 : l3 < l2), (kd Θ l0 = 39) ∧ ∀ (v8 : Int) (e8 : v8 = gt (vv Θ l0) 1) (r8 : -1 ≤ v8), (1 ≤ d) ∧ (kd Θ v8 = 3) ∧ (0 ≤ l3 ∧ l3 < len (vv Θ v8)) ∧ (3 ≤ d) ∧ (g ≤ G) ∧ ∀ (x12 : Int) (e12 : x12 = gt (vv Θ v8) l3) (r12 : -1 ≤ x12), (x12 < 0 ∨ kd Θ x12 ∈ [41]) ∧ (kd Θ x12 = 41) ∧ ∃ G24 : Nat, (g + G24 ≤ G) ∧ w2_X28_is ω (d - 1) G24 x12 58 Θ (fun x24 Θ24 => ∀ (L24 : Le Θ Θ24) (r24 : x24 = 0 ∨ x24 = 1), (∀ (c27 : x24 = 0), ∃ G36 : Nat, (g + G24 + G36 ≤ G) ∧ w2_X28_isAtom ω (d - 1) G36 x12 Θ24 (fun x36 Θ36 => ∀ (L36 : Le Θ24 Θ36) (r36 : x36 = 0 ∨ x36 = 1), (∀ (c39 : ¬ x36 = 0), W2_X26_behindRoute_2 ω d G l0 l1 l2 ((l3 + 1)) (g + G24 + G36) Θ36 Q) ∧ (∀ (c39 : x36 = 0), ∃ G46 : Nat, (g + G24 + G36 + G46 ≤ G) ∧ w2_X28_is ω (d - 1) G46 x12 64 Θ36 (fun x46 Θ46 => ∀ (L46 : Le Θ36 Θ46) (r46 : x46 = 0 ∨ x46 = 1), (∀ (c49 : ¬ x46 = 0), W2_X26_behindRoute_2 ω d G l0 l1 l2 ((l3 + 1)) (g + G24 + G36 + G46) Θ46 Q) ∧ (∀ (c49 : x46 = 0), ∃ G56 : Nat, (g + G24 + G36 + G46 + G56 ≤ G) ∧ w2_X28_is ω (d - 1) G56 x12 44 Θ46 (fun x56 Θ56 => ∀ (L56 : Le Θ46 Θ56) (r56 : x56 = 0 ∨ x56 = 1), (∀ (c59 : ¬ x56 = 0), W2_X26_behindRoute_2 ω d G l0 l1 l2 ((l3 + 1)) (g + G24 + G36 + G46 + G56) Θ56 Q) ∧ (∀ (c59 : x56 = 0), ∃ G66 : Nat, (g + G24 + G36 + G46 + G56 + G66 ≤ G) ∧ w2_X28_is ω (d - 1) G66 x12 46 Θ56 (fun x66 Θ66 => ∀ (L66 : Le Θ56 Θ66) (r66 : x66 = 0 ∨ x66 = 1), (∀ (c69 : ¬ x66 = 0), W2_X26_behindRoute_2 ω d G l0 l1 l2 ((l3 + 1)) (g + G24 + G36 + G46 + G56 + G66) Θ66 Q) ∧ (∀ (c69 : x66 = 0), ∃ G75 : Nat, (g + G24 + G36 + G46 + G56 + G66 + G75 ≤ G) ∧ w2_X26_hasColon ω (d - 1) G75 l0 l3 l2 Θ66 (fun x75 Θ75 => ∀ (L75 : Le Θ66 Θ75) (r75 : x75 = 0 ∨ x75 = 1), (∀ (c78 : x75 = 0), (g + G24 + G36 + G46 + G56 + G66 + G75 ≤ G) ∧ (-2147483648 ≤ l1 ∧ l1 < 2147483648) ∧ Q l1 Θ75) ∧ (∀ (c78 : ¬ x75 = 0), (g + G24 + G36 + G46 + G56 + G66 + G75 ≤ G) ∧ Q (-1) Θ75))))))))))) ∧ (∀ (c27 : ¬ x24 = 0), (g + G24 ≤ G) ∧ (-2147483648 ≤ (l3 + 1) ∧ (l3 + 1) < 2147483648) ∧ Q (l3 + 1) Θ24)))) : W2_X26_behindRoute_2 ω d G l0 l1 l2 l3 g Θ Q := sorry
def W2_X26_dotted_3 (ω : AO) (d G : Nat) (l0 l2 l3 l4 l5 : Int) (g : Nat) (Θ : Th) (Q : Int → Th → Prop) : Prop := Hid (SJ2 ω yX26_dotted cX26_dotted 6 (some .int) d G (fun Sz Θz => (eI Sz (q2 ω Θz Q))) 3 [(2, l0), vN, (0, l2), (0, l3), (2, l4), (0, l5)] [] g Θ)
def W2_X26_dotted_49 (ω : AO) (d G : Nat) (l0 l2 l3 l4 l5 : Int) (g : Nat) (Θ : Th) (Q : Int → Th → Prop) : Prop := Hid (SJ2 ω yX26_dotted cX26_dotted 6 (some .int) d G (fun Sz Θz => (eI Sz (q2 ω Θz Q))) 49 [(2, l0), vN, (0, l2), (0, l3), (2, l4), (0, l5)] [] g Θ)
set_option maxHeartbeats 4000000 in
theorem s2_X26_dotted {ω : AO} {d G : Nat} {l0 l1 l2 l3 l4 : Int} {Θ : Th} {Q : Int → Th → Prop} (hB : W2_X26_dotted_3 ω d G l0 l2 l3 l4 l1 (0) Θ Q) : w2_X26_dotted ω d G l0 l1 l2 l3 l4 Θ Q := sorry
set_option maxHeartbeats 4000000 in
theorem s2_X26_dotted_3 {ω : AO} {d G : Nat} {l0 l2 l3 l4 l5 : Int} {g : Nat} {Θ : Th} {Q : Int → Th → Prop} (hB : (-2147483648 ≤ l5 ∧ l5 < 2147483648) ∧ (-2147483648 ≤ l2 ∧ l2 < 2147483648) ∧ (∀ (c6 : l2 ≤ l5), (g ≤ G) ∧ Q (-1) Θ) ∧ (∀ (c6 : l5 < l2), (kd Θ l0 = 39) ∧ ∀ (v10 : Int) (e10 : v10 = gt (vv Θ l0) 1) (r10 : -1 ≤ v10), (1 ≤ d) ∧ (kd Θ v10 = 3) ∧ (0 ≤ l5 ∧ l5 < len (vv Θ v10)) ∧ (3 ≤ d) ∧ (g ≤ G) ∧ ∀ (x15 : Int) (e15 : x15 = gt (vv Θ v10) l5) (r15 : -1 ≤ x15), (x15 < 0 ∨ kd Θ x15 ∈ [41]) ∧ (kd Θ x15 = 41) ∧ ∃ G21 : Nat, (g + G21 ≤ G) ∧ w2_X28_isAtom ω (d - 1) G21 x15 Θ (fun x21 Θ21 => ∀ (L21 : Le Θ Θ21) (r21 : x21 = 0 ∨ x21 = 1), (∀ (c24 : ¬ x21 = 0), W2_X26_dotted_49 ω d G l0 l2 l3 l4 l5 (g + G21) Θ21 Q) ∧ (∀ (c24 : x21 = 0), (-2147483648 ≤ l3 ∧ l3 < 2147483648) ∧ (∀ (c28 : l3 = 0), (g + G21 ≤ G) ∧ Q (-1) Θ21) ∧ (∀ (c28 : ¬ l3 = 0), ∀ (v32 : Int) (e32 : v32 = gt (vv Θ21 l0) 1) (r32 : -1 ≤ v32), (kd Θ21 v32 = 3) ∧ (0 ≤ l5 ∧ l5 < len (vv Θ21 v32)) ∧ (g + G21 ≤ G) ∧ ∀ (x37 : Int) (e37 : x37 = gt (vv Θ21 v32) l5) (r37 : -1 ≤ x37), (x37 < 0 ∨ kd Θ21 x37 ∈ [41]) ∧ (kd Θ21 x37 = 41) ∧ ∃ G43 : Nat, (g + G21 + G43 ≤ G) ∧ w2_X28_isPlain ω (d - 1) G43 x37 Θ21 (fun x43 Θ43 => ∀ (L43 : Le Θ21 Θ43) (r43 : x43 = 0 ∨ x43 = 1), (∀ (c46 : x43 = 0), (g + G21 + G43 ≤ G) ∧ Q (-1) Θ43) ∧ (∀ (c46 : ¬ x43 = 0), W2_X26_dotted_49 ω d G l0 l2 l3 l4 l5 (g + G21 + G43) Θ43 Q))))))) : W2_X26_dotted_3 ω d G l0 l2 l3 l4 l5 g Θ Q := sorry
set_option maxHeartbeats 4000000 in
theorem s2_X26_dotted_49 {ω : AO} {d G : Nat} {l0 l2 l3 l4 l5 : Int} {g : Nat} {Θ : Th} {Q : Int → Th → Prop} (hB : (kd Θ l0 = 39) ∧ ∀ (v52 : Int) (e52 : v52 = gt (vv Θ l0) 1) (r52 : -1 ≤ v52), (1 ≤ d) ∧ (kd Θ v52 = 3) ∧ (0 ≤ l5 ∧ l5 < len (vv Θ v52)) ∧ (3 ≤ d) ∧ (g ≤ G) ∧ ∀ (x57 : Int) (e57 : x57 = gt (vv Θ v52) l5) (r57 : -1 ≤ x57), (x57 < 0 ∨ kd Θ x57 ∈ [41]) ∧ (kd Θ x57 = 41) ∧ ∀ (v63 : Int) (e63 : v63 = gt (vv Θ x57) 1) (r63 : -1 ≤ v63), (kd Θ l4 = 1) ∧ (kd Θ v63 = 2) ∧ (¬ fz Θ l4) ∧ (bC (cp Θ l4) (len (vv Θ l4) + len (vv Θ v63)) ≤ 20000000) ∧ (11 ≤ d) ∧ (g + (bK (bC (cp Θ l4) (len (vv Θ l4) + len (vv Θ v63))) (max (cx Θ l4) (wide (vv Θ v63))) - bK (cp Θ l4) (cx Θ l4)).toNat ≤ G) ∧ ∀ (Θ66 : Th) (t66 : Θ66 = uq Θ l4 (1, vv Θ l4 ++ vv Θ v63, bC (cp Θ l4) (len (vv Θ l4) + len (vv Θ v63)), max (cx Θ l4) (wide (vv Θ v63)))), (-2147483648 ≤ (l5 + 1) ∧ (l5 + 1) < 2147483648) ∧ (-2147483648 ≤ l2 ∧ l2 < 2147483648) ∧ (∀ (c76 : (l5 + 1) = l2), Q (l5 + 1) Θ66) ∧ (∀ (c76 : ¬ (l5 + 1) = l2), ∀ (v80 : Int) (e80 : v80 = gt (vv Θ66 l0) 1) (r80 : -1 ≤ v80), (kd Θ66 v80 = 3) ∧ (0 ≤ (l5 + 1) ∧ (l5 + 1) < len (vv Θ66 v80)) ∧ ∀ (x85 : Int) (e85 : x85 = gt (vv Θ66 v80) (l5 + 1)) (r85 : -1 ≤ x85), (x85 < 0 ∨ kd Θ66 x85 ∈ [41]) ∧ (kd Θ66 x85 = 41) ∧ ∃ G93 : Nat, (g + (bK (bC (cp Θ l4) (len (vv Θ l4) + len (vv Θ v63))) (max (cx Θ l4) (wide (vv Θ v63))) - bK (cp Θ l4) (cx Θ l4)).toNat + G93 ≤ G) ∧ w2_X28_is ω (d - 1) G93 x85 46 Θ66 (fun x93 Θ93 => ∀ (L93 : Le Θ66 Θ93) (r93 : x93 = 0 ∨ x93 = 1), (∀ (c96 : ¬ x93 = 0), (¬ fz Θ93 l4) ∧ (bC (cp Θ93 l4) (len (vv Θ93 l4) + 1) ≤ 20000000) ∧ (9 ≤ d) ∧ (g + (bK (bC (cp Θ l4) (len (vv Θ l4) + len (vv Θ v63))) (max (cx Θ l4) (wide (vv Θ v63))) - bK (cp Θ l4) (cx Θ l4)).toNat + G93 + (bK (bC (cp Θ93 l4) (len (vv Θ93 l4) + 1)) (if (46 : Int) ≤ 255 then cx Θ93 l4 else 1) - bK (cp Θ93 l4) (cx Θ93 l4)).toNat ≤ G) ∧ ∀ (Θ106 : Th) (t106 : Θ106 = uq Θ93 l4 (1, vv Θ93 l4 ++ [(46 : Int)], bC (cp Θ93 l4) (len (vv Θ93 l4) + 1), if (46 : Int) ≤ 255 then cx Θ93 l4 else 1)), W2_X26_dotted_3 ω d G l0 l2 l3 l4 (((l5 + 1) + 1)) (g + (bK (bC (cp Θ l4) (len (vv Θ l4) + len (vv Θ v63))) (max (cx Θ l4) (wide (vv Θ v63))) - bK (cp Θ l4) (cx Θ l4)).toNat + G93 + (bK (bC (cp Θ93 l4) (len (vv Θ93 l4) + 1)) (if (46 : Int) ≤ 255 then cx Θ93 l4 else 1) - bK (cp Θ93 l4) (cx Θ93 l4)).toNat) Θ106 Q) ∧ (∀ (c96 : x93 = 0), (g + (bK (bC (cp Θ l4) (len (vv Θ l4) + len (vv Θ v63))) (max (cx Θ l4) (wide (vv Θ v63))) - bK (cp Θ l4) (cx Θ l4)).toNat + G93 ≤ G) ∧ Q (l5 + 1) Θ93)))) : W2_X26_dotted_49 ω d G l0 l2 l3 l4 l5 g Θ Q := sorry
def W2_X26_spec_156 (ω : AO) (d G : Nat) (l0 l1 l3 l5 l7 : Int) (g : Nat) (Θ : Th) (Q : Int → Th → Prop) : Prop := Hid (SJ2 ω yX26_spec cX26_spec 9 (some .boolean) d G (fun Sz Θz => (eZ Sz (q2 ω Θz Q))) 156 [(2, l0), (2, l1), vN, (0, l3), vN, (0, l5), vN, (2, l7), vN] [] g Θ)
def W2_X26_spec_133 (ω : AO) (d G : Nat) (l3 l5 : Int) (g : Nat) (Θ : Th) (Q : Int → Th → Prop) : Prop := Hid (SJ2 ω yX26_spec cX26_spec 9 (some .boolean) d G (fun Sz Θz => (eZ Sz (q2 ω Θz Q))) 133 [vN, vN, vN, (0, l3), vN, (0, l5), vN, vN, vN] [] g Θ)
def W2_X26_spec_177 (ω : AO) (d G : Nat) (l1 l7 s0 : Int) (g : Nat) (Θ : Th) (Q : Int → Th → Prop) : Prop := Hid (SJ2 ω yX26_spec cX26_spec 9 (some .boolean) d G (fun Sz Θz => (eZ Sz (q2 ω Θz Q))) 177 [vN, (2, l1), vN, vN, vN, vN, vN, (2, l7), vN] [(0, s0)] g Θ)
set_option maxHeartbeats 4000000 in
theorem s2_X26_spec {ω : AO} {d G : Nat} {l0 l1 l2 l3 : Int} {Θ : Th} {Q : Int → Th → Prop} (hB : (0 + 1 ≤ G) ∧ ∀ (v0 : Int) (Θ0 : Th) (u0 : nt Θ ≤ v0 ∧ 0 ≤ v0) (b0 : Bl Θ) (t0 : Θ0 = nu Θ v0 (201, [], 0, 0)), (1 ≤ d) ∧ (3 ≤ d) ∧ (0 + 1 + 5 ≤ G) ∧ ∀ (Θ4 : Th) (t4 : Θ4 = uq Θ0 v0 (1, [], 16, 0)), (kd Θ4 l0 = 39) ∧ ∃ G15 : Nat, (0 + 1 + 5 + G15 ≤ G) ∧ w2_X26_dotted ω (d - 1) G15 l0 l2 l3 1 v0 Θ4 (fun x15 Θ15 => ∀ (L15 : Le Θ4 Θ15) (r15 : -2147483648 ≤ x15 ∧ x15 < 2147483648), (∀ (c22 : 0 ≤ x15), (len (vv Θ15 v0) ≤ 15000000) ∧ (8 ≤ d) ∧ (0 + 1 + 5 + G15 + (len (vv Θ15 v0) + 5).toNat ≤ G) ∧ ∀ (x30 : Int) (Θ30 : Th) (e30 : NewS Θ15 Θ30 x30 (vv Θ15 v0)) (n30 : nt Θ15 ≤ x30), (kd Θ30 l1 = 42) ∧ (¬ fz Θ30 l1) ∧ ∀ (Θ33 : Th) (t33 : Θ33 = pf Θ30 l1 1 x30), (-2147483648 ≤ l3 ∧ l3 < 2147483648) ∧ (∀ (c39 : ¬ x15 = l3), ∀ (v45 : Int) (e45 : v45 = gt (vv Θ33 l0) 1) (r45 : -1 ≤ v45), (kd Θ33 v45 = 3) ∧ (0 ≤ x15 ∧ x15 < len (vv Θ33 v45)) ∧ ∀ (x50 : Int) (e50 : x50 = gt (vv Θ33 v45) x15) (r50 : -1 ≤ x50), (x50 < 0 ∨ kd Θ33 x50 ∈ [41]) ∧ (kd Θ33 x50 = 41) ∧ ∃ G58 : Nat, (0 + 1 + 5 + G15 + (len (vv Θ15 v0) + 5).toNat + G58 ≤ G) ∧ w2_X28_is ω (d - 1) G58 x50 64 Θ33 (fun x58 Θ58 => ∀ (L58 : Le Θ33 Θ58) (r58 : x58 = 0 ∨ x58 = 1), (∀ (c61 : x58 = 0), (0 + 1 + 5 + G15 + (len (vv Θ15 v0) + 5).toNat + G58 ≤ G) ∧ Q 0 Θ58) ∧ (∀ (c61 : ¬ x58 = 0), (-2147483648 ≤ (x15 + 1) ∧ (x15 + 1) < 2147483648) ∧ (∀ (c69 : ¬ (x15 + 1) = l3), ∀ (v75 : Int) (e75 : v75 = gt (vv Θ58 l0) 1) (r75 : -1 ≤ v75), (kd Θ58 v75 = 3) ∧ (0 ≤ (x15 + 1) ∧ (x15 + 1) < len (vv Θ58 v75)) ∧ (0 + 1 + 5 + G15 + (len (vv Θ15 v0) + 5).toNat + G58 ≤ G) ∧ ∀ (x82 : Int) (e82 : x82 = gt (vv Θ58 v75) (x15 + 1)) (r82 : -1 ≤ x82), (x82 < 0 ∨ kd Θ58 x82 ∈ [41]) ∧ (kd Θ58 x82 = 41) ∧ ∀ (v92 : Int) (e92 : v92 = gt (vv Θ58 x82) 0) (r92 : -1 ≤ v92), (-1 ≤ ((ω.2.2.1 "#V" 11 : Int) - 1)) ∧ (∀ (c98 : ¬ v92 = ((ω.2.2.1 "#V" 11 : Int) - 1)), (0 + 1 + 5 + G15 + (len (vv Θ15 v0) + 5).toNat + G58 + 1 ≤ G) ∧ ∀ (v147 : Int) (Θ147 : Th) (u147 : nt Θ58 ≤ v147 ∧ 0 ≤ v147) (b147 : Bl Θ58) (t147 : Θ147 = nu Θ58 v147 (201, [], 0, 0)), (0 + 1 + 5 + G15 + (len (vv Θ15 v0) + 5).toNat + G58 + 1 + 5 ≤ G) ∧ ∀ (Θ151 : Th) (t151 : Θ151 = uq Θ147 v147 (1, [], 16, 0)), W2_X26_spec_156 ω d G l0 l1 l3 x15 v147 (0 + 1 + 5 + G15 + (len (vv Θ15 v0) + 5).toNat + G58 + 1 + 5) Θ151 Q) ∧ (∀ (c98 : v92 = ((ω.2.2.1 "#V" 11 : Int) - 1)), (0 + 1 + 5 + G15 + (len (vv Θ15 v0) + 5).toNat + G58 + 1 ≤ G) ∧ ∀ (v102 : Int) (Θ102 : Th) (u102 : nt Θ58 ≤ v102 ∧ 0 ≤ v102) (b102 : Bl Θ58) (t102 : Θ102 = nu Θ58 v102 (201, [], 0, 0)), (0 + 1 + 5 + G15 + (len (vv Θ15 v0) + 5).toNat + G58 + 1 + 5 ≤ G) ∧ ∀ (Θ106 : Th) (t106 : Θ106 = uq Θ102 v102 (1, [], 16, 0)), ∀ (v109 : Int) (h109 : Str Θ106 v109 [91]), (¬ fz Θ106 v102) ∧ (bC (cp Θ106 v102) (len (vv Θ106 v102) + len (vv Θ106 v109)) ≤ 20000000) ∧ (11 ≤ d) ∧ (0 + 1 + 5 + G15 + (len (vv Θ15 v0) + 5).toNat + G58 + 1 + 5 + (bK (bC (cp Θ106 v102) (len (vv Θ106 v102) + len (vv Θ106 v109))) (max (cx Θ106 v102) (wide (vv Θ106 v109))) - bK (cp Θ106 v102) (cx Θ106 v102)).toNat ≤ G) ∧ ∀ (Θ111 : Th) (t111 : Θ111 = uq Θ106 v102 (1, vv Θ106 v102 ++ vv Θ106 v109, bC (cp Θ106 v102) (len (vv Θ106 v102) + len (vv Θ106 v109)), max (cx Θ106 v102) (wide (vv Θ106 v109)))), ∀ (v116 : Int) (e116 : v116 = gt (vv Θ111 x82) 1) (r116 : -1 ≤ v116), (kd Θ111 v116 = 2) ∧ (bC (cp Θ111 v102) (len (vv Θ111 v102) + len (vv Θ111 v116)) ≤ 20000000) ∧ (0 + 1 + 5 + G15 + (len (vv Θ15 v0) + 5).toNat + G58 + 1 + 5 + (bK (bC (cp Θ106 v102) (len (vv Θ106 v102) + len (vv Θ106 v109))) (max (cx Θ106 v102) (wide (vv Θ106 v109))) - bK (cp Θ106 v102) (cx Θ106 v102)).toNat + (bK (bC (cp Θ111 v102) (len (vv Θ111 v102) + len (vv Θ111 v116))) (max (cx Θ111 v102) (wide (vv Θ111 v116))) - bK (cp Θ111 v102) (cx Θ111 v102)).toNat ≤ G) ∧ ∀ (Θ119 : Th) (t119 : Θ119 = uq Θ111 v102 (1, vv Θ111 v102 ++ vv Θ111 v116, bC (cp Θ111 v102) (len (vv Θ111 v102) + len (vv Θ111 v116)), max (cx Θ111 v102) (wide (vv Θ111 v116)))), ∀ (v122 : Int) (h122 : Str Θ119 v122 [93]), (bC (cp Θ119 v102) (len (vv Θ119 v102) + len (vv Θ119 v122)) ≤ 20000000) ∧ (0 + 1 + 5 + G15 + (len (vv Θ15 v0) + 5).toNat + G58 + 1 + 5 + (bK (bC (cp Θ106 v102) (len (vv Θ106 v102) + len (vv Θ106 v109))) (max (cx Θ106 v102) (wide (vv Θ106 v109))) - bK (cp Θ106 v102) (cx Θ106 v102)).toNat + (bK (bC (cp Θ111 v102) (len (vv Θ111 v102) + len (vv Θ111 v116))) (max (cx Θ111 v102) (wide (vv Θ111 v116))) - bK (cp Θ111 v102) (cx Θ111 v102)).toNat + (bK (bC (cp Θ119 v102) (len (vv Θ119 v102) + len (vv Θ119 v122))) (max (cx Θ119 v102) (wide (vv Θ119 v122))) - bK (cp Θ119 v102) (cx Θ119 v102)).toNat ≤ G) ∧ ∀ (Θ124 : Th) (t124 : Θ124 = uq Θ119 v102 (1, vv Θ119 v102 ++ vv Θ119 v122, bC (cp Θ119 v102) (len (vv Θ119 v102) + len (vv Θ119 v122)), max (cx Θ119 v102) (wide (vv Θ119 v122)))), (len (vv Θ124 v102) ≤ 15000000) ∧ (0 + 1 + 5 + G15 + (len (vv Θ15 v0) + 5).toNat + G58 + 1 + 5 + (bK (bC (cp Θ106 v102) (len (vv Θ106 v102) + len (vv Θ106 v109))) (max (cx Θ106 v102) (wide (vv Θ106 v109))) - bK (cp Θ106 v102) (cx Θ106 v102)).toNat + (bK (bC (cp Θ111 v102) (len (vv Θ111 v102) + len (vv Θ111 v116))) (max (cx Θ111 v102) (wide (vv Θ111 v116))) - bK (cp Θ111 v102) (cx Θ111 v102)).toNat + (bK (bC (cp Θ119 v102) (len (vv Θ119 v102) + len (vv Θ119 v122))) (max (cx Θ119 v102) (wide (vv Θ119 v122))) - bK (cp Θ119 v102) (cx Θ119 v102)).toNat + (len (vv Θ124 v102) + 5).toNat ≤ G) ∧ ∀ (x127 : Int) (Θ127 : Th) (e127 : NewS Θ124 Θ127 x127 (vv Θ124 v102)) (n127 : nt Θ124 ≤ x127), (¬ fz Θ127 l1) ∧ ∀ (Θ130 : Th) (t130 : Θ130 = pf Θ127 l1 2 x127), W2_X26_spec_133 ω d G l3 x15 (0 + 1 + 5 + G15 + (len (vv Θ15 v0) + 5).toNat + G58 + 1 + 5 + (bK (bC (cp Θ106 v102) (len (vv Θ106 v102) + len (vv Θ106 v109))) (max (cx Θ106 v102) (wide (vv Θ106 v109))) - bK (cp Θ106 v102) (cx Θ106 v102)).toNat + (bK (bC (cp Θ111 v102) (len (vv Θ111 v102) + len (vv Θ111 v116))) (max (cx Θ111 v102) (wide (vv Θ111 v116))) - bK (cp Θ111 v102) (cx Θ111 v102)).toNat + (bK (bC (cp Θ119 v102) (len (vv Θ119 v102) + len (vv Θ119 v122))) (max (cx Θ119 v102) (wide (vv Θ119 v122))) - bK (cp Θ119 v102) (cx Θ119 v102)).toNat + (len (vv Θ124 v102) + 5).toNat) Θ130 Q)) ∧ (∀ (c69 : (x15 + 1) = l3), (0 + 1 + 5 + G15 + (len (vv Θ15 v0) + 5).toNat + G58 ≤ G) ∧ Q 0 Θ58)))) ∧ (∀ (c39 : x15 = l3), Q 1 Θ33)) ∧ (∀ (c22 : x15 < 0), (0 + 1 + 5 + G15 ≤ G) ∧ Q 0 Θ15))) : w2_X26_spec ω d G l0 l1 l2 l3 Θ Q := sorry
set_option maxHeartbeats 4000000 in
theorem s2_X26_spec_156 {ω : AO} {d G : Nat} {l0 l1 l3 l5 l7 : Int} {g : Nat} {Θ : Th} {Q : Int → Th → Prop} (hB : (1 ≤ d) ∧ (kd Θ l0 = 39) ∧ ∃ G165 : Nat, (g + G165 ≤ G) ∧ w2_X26_dotted ω (d - 1) G165 l0 (l5 + 1) l3 0 l7 Θ (fun x165 Θ165 => ∀ (L165 : Le Θ Θ165) (r165 : -2147483648 ≤ x165 ∧ x165 < 2147483648), (-2147483648 ≤ l3 ∧ l3 < 2147483648) ∧ (∀ (c169 : ¬ x165 = l3), W2_X26_spec_177 ω d G l1 l7 0 (g + G165) Θ165 Q) ∧ (∀ (c169 : x165 = l3), W2_X26_spec_177 ω d G l1 l7 1 (g + G165) Θ165 Q))) : W2_X26_spec_156 ω d G l0 l1 l3 l5 l7 g Θ Q := sorry
set_option maxHeartbeats 4000000 in
theorem s2_X26_spec_133 {ω : AO} {d G : Nat} {l3 l5 : Int} {g : Nat} {Θ : Th} {Q : Int → Th → Prop} (hB : (-2147483648 ≤ (l5 + 2) ∧ (l5 + 2) < 2147483648) ∧ (-2147483648 ≤ l3 ∧ l3 < 2147483648) ∧ (∀ (c138 : ¬ (l5 + 2) = l3), (g ≤ G) ∧ Q 0 Θ) ∧ (∀ (c138 : (l5 + 2) = l3), (g ≤ G) ∧ Q 1 Θ)) : W2_X26_spec_133 ω d G l3 l5 g Θ Q := sorry
set_option maxHeartbeats 4000000 in
theorem s2_X26_spec_177 {ω : AO} {d G : Nat} {l1 l7 s0 : Int} {g : Nat} {Θ : Th} {Q : Int → Th → Prop} (hB : (1 ≤ d) ∧ (kd Θ l7 = 1) ∧ (len (vv Θ l7) ≤ 15000000) ∧ (8 ≤ d) ∧ (g + (len (vv Θ l7) + 5).toNat ≤ G) ∧ ∀ (x182 : Int) (Θ182 : Th) (e182 : NewS Θ Θ182 x182 (vv Θ l7)) (n182 : nt Θ ≤ x182), (kd Θ182 l1 = 42) ∧ (¬ fz Θ182 l1) ∧ ∀ (Θ185 : Th) (t185 : Θ185 = pf Θ182 l1 2 x182), (s0 = 0 ∨ s0 = 1) ∧ Q s0 Θ185) : W2_X26_spec_177 ω d G l1 l7 s0 g Θ Q := sorry
def W2_X26_title_10 (ω : AO) (d G : Nat) (l0 l1 l2 l3 : Int) (g : Nat) (Θ : Th) (Q : Int → Th → Prop) : Prop := Hid (SJ2 ω yX26_title cX26_title 4 (some (.object "java/lang/String")) d G (fun Sz Θz => (eA Sz (q2 ω Θz Q))) 10 [(2, l0), (0, l1), (2, l2), (0, l3)] [] g Θ)
def W2_X26_title_42 (ω : AO) (d G : Nat) (l0 l1 l2 l3 : Int) (g : Nat) (Θ : Th) (Q : Int → Th → Prop) : Prop := Hid (SJ2 ω yX26_title cX26_title 4 (some (.object "java/lang/String")) d G (fun Sz Θz => (eA Sz (q2 ω Θz Q))) 42 [(2, l0), (0, l1), (2, l2), (0, l3)] [] g Θ)
set_option maxHeartbeats 4000000 in
theorem s2_X26_title {ω : AO} {d G : Nat} {l0 l1 : Int} {Θ : Th} {Q : Int → Th → Prop} (hB : (0 + 1 ≤ G) ∧ ∀ (v0 : Int) (Θ0 : Th) (u0 : nt Θ ≤ v0 ∧ 0 ≤ v0) (b0 : Bl Θ) (t0 : Θ0 = nu Θ v0 (201, [], 0, 0)), (1 ≤ d) ∧ (3 ≤ d) ∧ (0 + 1 + 5 ≤ G) ∧ ∀ (Θ4 : Th) (t4 : Θ4 = uq Θ0 v0 (1, [], 16, 0)), W2_X26_title_10 ω d G l0 l1 v0 0 (0 + 1 + 5) Θ4 Q) : w2_X26_title ω d G l0 l1 Θ Q := sorry
set_option maxHeartbeats 4000000 in
theorem s2_X26_title_10 {ω : AO} {d G : Nat} {l0 l1 l2 l3 : Int} {g : Nat} {Θ : Th} {Q : Int → Th → Prop} (hB : (-2147483648 ≤ l3 ∧ l3 < 2147483648) ∧ (-2147483648 ≤ l1 ∧ l1 < 2147483648) ∧ (∀ (c12 : l1 ≤ l3), (1 ≤ d) ∧ (kd Θ l2 = 1) ∧ (len (vv Θ l2) ≤ 15000000) ∧ (8 ≤ d) ∧ (g + (len (vv Θ l2) + 5).toNat ≤ G) ∧ ∀ (x65 : Int) (Θ65 : Th) (e65 : NewS Θ Θ65 x65 (vv Θ l2)) (n65 : nt Θ ≤ x65), Q x65 Θ65) ∧ (∀ (c12 : l3 < l1), (∀ (c16 : l3 ≤ 0), W2_X26_title_42 ω d G l0 l1 l2 l3 (g) Θ Q) ∧ (∀ (c16 : 0 < l3), (1 ≤ d) ∧ (kd Θ l0 = 3) ∧ (0 ≤ l3 ∧ l3 < len (vv Θ l0)) ∧ (3 ≤ d) ∧ (g ≤ G) ∧ ∀ (x21 : Int) (e21 : x21 = gt (vv Θ l0) l3) (r21 : -1 ≤ x21), (x21 < 0 ∨ kd Θ x21 ∈ [41]) ∧ (kd Θ x21 = 41) ∧ ∃ G29 : Nat, (g + G29 ≤ G) ∧ w2_X28_is ω (d - 1) G29 x21 46 Θ (fun x29 Θ29 => ∀ (L29 : Le Θ Θ29) (r29 : x29 = 0 ∨ x29 = 1), (∀ (c32 : ¬ x29 = 0), W2_X26_title_42 ω d G l0 l1 l2 l3 (g + G29) Θ29 Q) ∧ (∀ (c32 : x29 = 0), (kd Θ29 l2 = 1) ∧ (¬ fz Θ29 l2) ∧ (bC (cp Θ29 l2) (len (vv Θ29 l2) + 1) ≤ 20000000) ∧ (9 ≤ d) ∧ (g + G29 + (bK (bC (cp Θ29 l2) (len (vv Θ29 l2) + 1)) (if (32 : Int) ≤ 255 then cx Θ29 l2 else 1) - bK (cp Θ29 l2) (cx Θ29 l2)).toNat ≤ G) ∧ ∀ (Θ38 : Th) (t38 : Θ38 = uq Θ29 l2 (1, vv Θ29 l2 ++ [(32 : Int)], bC (cp Θ29 l2) (len (vv Θ29 l2) + 1), if (32 : Int) ≤ 255 then cx Θ29 l2 else 1)), W2_X26_title_42 ω d G l0 l1 l2 l3 (g + G29 + (bK (bC (cp Θ29 l2) (len (vv Θ29 l2) + 1)) (if (32 : Int) ≤ 255 then cx Θ29 l2 else 1) - bK (cp Θ29 l2) (cx Θ29 l2)).toNat) Θ38 Q))))) : W2_X26_title_10 ω d G l0 l1 l2 l3 g Θ Q := sorry
set_option maxHeartbeats 4000000 in
theorem s2_X26_title_42 {ω : AO} {d G : Nat} {l0 l1 l2 l3 : Int} {g : Nat} {Θ : Th} {Q : Int → Th → Prop} (hB : (1 ≤ d) ∧ (kd Θ l0 = 3) ∧ (0 ≤ l3 ∧ l3 < len (vv Θ l0)) ∧ (3 ≤ d) ∧ (g ≤ G) ∧ ∀ (x45 : Int) (e45 : x45 = gt (vv Θ l0) l3) (r45 : -1 ≤ x45), (x45 < 0 ∨ kd Θ x45 ∈ [41]) ∧ (kd Θ x45 = 41) ∧ ∀ (v51 : Int) (e51 : v51 = gt (vv Θ x45) 1) (r51 : -1 ≤ v51), (kd Θ l2 = 1) ∧ (kd Θ v51 = 2) ∧ (¬ fz Θ l2) ∧ (bC (cp Θ l2) (len (vv Θ l2) + len (vv Θ v51)) ≤ 20000000) ∧ (11 ≤ d) ∧ (g + (bK (bC (cp Θ l2) (len (vv Θ l2) + len (vv Θ v51))) (max (cx Θ l2) (wide (vv Θ v51))) - bK (cp Θ l2) (cx Θ l2)).toNat ≤ G) ∧ ∀ (Θ54 : Th) (t54 : Θ54 = uq Θ l2 (1, vv Θ l2 ++ vv Θ v51, bC (cp Θ l2) (len (vv Θ l2) + len (vv Θ v51)), max (cx Θ l2) (wide (vv Θ v51)))), W2_X26_title_10 ω d G l0 l1 l2 ((l3 + 1)) (g + (bK (bC (cp Θ l2) (len (vv Θ l2) + len (vv Θ v51))) (max (cx Θ l2) (wide (vv Θ v51))) - bK (cp Θ l2) (cx Θ l2)).toNat) Θ54 Q) : W2_X26_title_42 ω d G l0 l1 l2 l3 g Θ Q := sorry
def W2_X26_mailbox_21 (ω : AO) (d G : Nat) (l0 l1 l2 : Int) (g : Nat) (Θ : Th) (Q : Th → Prop) : Prop := Hid (SJ2 ω yX26_mailbox cX26_mailbox 7 none d G (fun Sz Θz => (eU Sz (q2U ω Θz Q))) 21 [(2, l0), (2, l1), (0, l2), vN, vN, vN, vN] [] g Θ)
def W2_X26_mailbox_57 (ω : AO) (d G : Nat) (l0 l1 l2 : Int) (g : Nat) (Θ : Th) (Q : Th → Prop) : Prop := Hid (SJ2 ω yX26_mailbox cX26_mailbox 7 none d G (fun Sz Θz => (eU Sz (q2U ω Θz Q))) 57 [(2, l0), (2, l1), (0, l2), vN, vN, vN, vN] [] g Θ)
def W2_X26_mailbox_130 (ω : AO) (d G : Nat) (l0 l1 l2 l3 l4 l5 : Int) (g : Nat) (Θ : Th) (Q : Th → Prop) : Prop := Hid (SJ2 ω yX26_mailbox cX26_mailbox 7 none d G (fun Sz Θz => (eU Sz (q2U ω Θz Q))) 130 [(2, l0), (2, l1), (0, l2), (0, l3), (0, l4), (0, l5), vN] [] g Θ)
def W2_X26_mailbox_114 (ω : AO) (d G : Nat) (l0 l1 l2 l4 : Int) (g : Nat) (Θ : Th) (Q : Th → Prop) : Prop := Hid (SJ2 ω yX26_mailbox cX26_mailbox 7 none d G (fun Sz Θz => (eU Sz (q2U ω Θz Q))) 114 [(2, l0), (2, l1), (0, l2), vN, (0, l4), vN, vN] [] g Θ)
def W2_X26_mailbox_115 (ω : AO) (d G : Nat) (l0 l1 l2 l4 s0 : Int) (g : Nat) (Θ : Th) (Q : Th → Prop) : Prop := Hid (SJ2 ω yX26_mailbox cX26_mailbox 7 none d G (fun Sz Θz => (eU Sz (q2U ω Θz Q))) 115 [(2, l0), (2, l1), (0, l2), vN, (0, l4), vN, vN] [(0, s0)] g Θ)
def W2_X26_mailbox_163 (ω : AO) (d G : Nat) (l0 l1 l2 : Int) (g : Nat) (Θ : Th) (Q : Th → Prop) : Prop := Hid (SJ2 ω yX26_mailbox cX26_mailbox 7 none d G (fun Sz Θz => (eU Sz (q2U ω Θz Q))) 163 [(2, l0), (2, l1), (0, l2), vN, vN, vN, vN] [] g Θ)
def W2_X26_mailbox_164 (ω : AO) (d G : Nat) (l0 l1 l2 s0 : Int) (g : Nat) (Θ : Th) (Q : Th → Prop) : Prop := Hid (SJ2 ω yX26_mailbox cX26_mailbox 7 none d G (fun Sz Θz => (eU Sz (q2U ω Θz Q))) 164 [(2, l0), (2, l1), (0, l2), vN, vN, vN, vN] [(0, s0)] g Θ)
def W2_X26_mailbox_199 (ω : AO) (d G : Nat) (l0 l1 s0 s1 : Int) (g : Nat) (Θ : Th) (Q : Th → Prop) : Prop := Hid (SJ2 ω yX26_mailbox cX26_mailbox 7 none d G (fun Sz Θz => (eU Sz (q2U ω Θz Q))) 199 [(2, l0), (2, l1), vN, vN, vN, vN, vN] [(2, s0), (2, s1)] g Θ)
set_option maxHeartbeats 4000000 in
theorem s2_X26_mailbox {ω : AO} {d G : Nat} {l0 : Int} {Θ : Th} {Q : Th → Prop} (hB : (kd Θ l0 = 39) ∧ ∀ (v1 : Int) (e1 : v1 = gt (vv Θ l0) 1) (r1 : -1 ≤ v1), (1 ≤ d) ∧ (kd Θ v1 = 3) ∧ ∀ (x4 : Int) (e4 : x4 = if vv Θ v1 = [] then 1 else 0) (r4 : x4 = 0 ∨ x4 = 1), (∀ (c7 : x4 = 0), (0 + 1 ≤ G) ∧ ∀ (v11 : Int) (Θ11 : Th) (u11 : nt Θ ≤ v11 ∧ 0 ≤ v11) (b11 : Bl Θ) (t11 : Θ11 = nu Θ v11 (42, [-1, -1, -1, -1, -1], 0, 0)), ∃ G15 : Nat, (0 + 1 + G15 ≤ G) ∧ w2_X29_init ω (d - 1) G15 v11 Θ11 (fun Θ15 => ∀ (L15 : Le Θ11 Θ15), W2_X26_mailbox_21 ω d G l0 v11 0 (0 + 1 + G15) Θ15 Q)) ∧ (∀ (c7 : ¬ x4 = 0), Q Θ)) : w2_X26_mailbox ω d G l0 Θ Q := sorry
set_option maxHeartbeats 4000000 in
theorem s2_X26_mailbox_21 {ω : AO} {d G : Nat} {l0 l1 l2 : Int} {g : Nat} {Θ : Th} {Q : Th → Prop} (hB : (kd Θ l0 = 39) ∧ ∀ (v23 : Int) (e23 : v23 = gt (vv Θ l0) 1) (r23 : -1 ≤ v23), (1 ≤ d) ∧ (kd Θ v23 = 3) ∧ (g ≤ G) ∧ ∀ (x26 : Int) (e26 : x26 = len (vv Θ v23)) (r26 : -2147483648 ≤ x26 ∧ x26 < 2147483648), (-2147483648 ≤ l2 ∧ l2 < 2147483648) ∧ (∀ (c29 : x26 ≤ l2), W2_X26_mailbox_57 ω d G l0 l1 l2 (g) Θ Q) ∧ (∀ (c29 : l2 < x26), ∀ (v33 : Int) (e33 : v33 = gt (vv Θ l0) 1) (r33 : -1 ≤ v33), (kd Θ v33 = 3) ∧ (0 ≤ l2 ∧ l2 < len (vv Θ v33)) ∧ (3 ≤ d) ∧ ∀ (x37 : Int) (e37 : x37 = gt (vv Θ v33) l2) (r37 : -1 ≤ x37), (x37 < 0 ∨ kd Θ x37 ∈ [41]) ∧ (kd Θ x37 = 41) ∧ ∃ G45 : Nat, (g + G45 ≤ G) ∧ w2_X28_is ω (d - 1) G45 x37 60 Θ (fun x45 Θ45 => ∀ (L45 : Le Θ Θ45) (r45 : x45 = 0 ∨ x45 = 1), (∀ (c48 : ¬ x45 = 0), W2_X26_mailbox_57 ω d G l0 l1 l2 (g + G45) Θ45 Q) ∧ (∀ (c48 : x45 = 0), W2_X26_mailbox_21 ω d G l0 l1 ((l2 + 1)) (g + G45) Θ45 Q)))) : W2_X26_mailbox_21 ω d G l0 l1 l2 g Θ Q := sorry
set_option maxHeartbeats 4000000 in
theorem s2_X26_mailbox_57 {ω : AO} {d G : Nat} {l0 l1 l2 : Int} {g : Nat} {Θ : Th} {Q : Th → Prop} (hB : (kd Θ l0 = 39) ∧ ∀ (v60 : Int) (e60 : v60 = gt (vv Θ l0) 1) (r60 : -1 ≤ v60), (1 ≤ d) ∧ (kd Θ v60 = 3) ∧ (g ≤ G) ∧ ∀ (x63 : Int) (e63 : x63 = len (vv Θ v60)) (r63 : -2147483648 ≤ x63 ∧ x63 < 2147483648), (-2147483648 ≤ l2 ∧ l2 < 2147483648) ∧ (∀ (c74 : x63 ≤ l2), W2_X26_mailbox_130 ω d G l0 l1 l2 0 x63 1 (g) Θ Q) ∧ (∀ (c74 : l2 < x63), ∀ (v78 : Int) (e78 : v78 = gt (vv Θ l0) 1) (r78 : -1 ≤ v78), ∃ G82 : Nat, (g + G82 ≤ G) ∧ w2_X26_isName ω (d - 1) G82 v78 l2 Θ (fun x82 Θ82 => ∀ (L82 : Le Θ Θ82) (r82 : x82 = 0 ∨ x82 = 1), (∀ (c85 : x82 = 0), W2_X26_mailbox_114 ω d G l0 l1 l2 x63 (g + G82) Θ82 Q) ∧ (∀ (c85 : ¬ x82 = 0), ∀ (v89 : Int) (e89 : v89 = gt (vv Θ82 l0) 1) (r89 : -1 ≤ v89), (kd Θ82 v89 = 3) ∧ (0 ≤ (x63 - 1) ∧ (x63 - 1) < len (vv Θ82 v89)) ∧ (3 ≤ d) ∧ (g + G82 ≤ G) ∧ ∀ (x96 : Int) (e96 : x96 = gt (vv Θ82 v89) (x63 - 1)) (r96 : -1 ≤ x96), (x96 < 0 ∨ kd Θ82 x96 ∈ [41]) ∧ (kd Θ82 x96 = 41) ∧ ∃ G104 : Nat, (g + G82 + G104 ≤ G) ∧ w2_X28_is ω (d - 1) G104 x96 62 Θ82 (fun x104 Θ104 => ∀ (L104 : Le Θ82 Θ104) (r104 : x104 = 0 ∨ x104 = 1), (∀ (c107 : x104 = 0), W2_X26_mailbox_114 ω d G l0 l1 l2 x63 (g + G82 + G104) Θ104 Q) ∧ (∀ (c107 : ¬ x104 = 0), W2_X26_mailbox_115 ω d G l0 l1 l2 x63 1 (g + G82 + G104) Θ104 Q)))))) : W2_X26_mailbox_57 ω d G l0 l1 l2 g Θ Q := sorry
set_option maxHeartbeats 4000000 in
theorem s2_X26_mailbox_130 {ω : AO} {d G : Nat} {l0 l1 l2 l3 l4 l5 : Int} {g : Nat} {Θ : Th} {Q : Th → Prop} (hB : (-2147483648 ≤ l5 ∧ l5 < 2147483648) ∧ (∀ (c132 : l5 = 0), (g ≤ G) ∧ Q Θ) ∧ (∀ (c132 : ¬ l5 = 0), (-2147483648 ≤ l3 ∧ l3 < 2147483648) ∧ (∀ (c136 : l3 < 0), (g ≤ G) ∧ Q Θ) ∧ (∀ (c136 : 0 ≤ l3), (1 ≤ d) ∧ (kd Θ l0 = 39) ∧ ∃ G144 : Nat, (g + G144 ≤ G) ∧ w2_X26_spec ω (d - 1) G144 l0 l1 l3 l4 Θ (fun x144 Θ144 => ∀ (L144 : Le Θ Θ144) (r144 : x144 = 0 ∨ x144 = 1), (∀ (c147 : ¬ x144 = 0), (∀ (c152 : l3 ≤ 0), W2_X26_mailbox_163 ω d G l0 l1 l2 (g + G144) Θ144 Q) ∧ (∀ (c152 : 0 < l3), (-2147483648 ≤ l2 ∧ l2 < 2147483648) ∧ (∀ (c156 : l2 ≤ 0), W2_X26_mailbox_163 ω d G l0 l1 l2 (g + G144) Θ144 Q) ∧ (∀ (c156 : 0 < l2), W2_X26_mailbox_164 ω d G l0 l1 l2 1 (g + G144) Θ144 Q))) ∧ (∀ (c147 : x144 = 0), (g + G144 ≤ G) ∧ Q Θ144))))) : W2_X26_mailbox_130 ω d G l0 l1 l2 l3 l4 l5 g Θ Q := sorry
set_option maxHeartbeats 4000000 in
theorem s2_X26_mailbox_114 {ω : AO} {d G : Nat} {l0 l1 l2 l4 : Int} {g : Nat} {Θ : Th} {Q : Th → Prop} (hB : W2_X26_mailbox_115 ω d G l0 l1 l2 l4 0 (g) Θ Q) : W2_X26_mailbox_114 ω d G l0 l1 l2 l4 g Θ Q := sorry
set_option maxHeartbeats 4000000 in
theorem s2_X26_mailbox_115 {ω : AO} {d G : Nat} {l0 l1 l2 l4 s0 : Int} {g : Nat} {Θ : Th} {Q : Th → Prop} (hB : (1 ≤ d) ∧ (kd Θ l0 = 39) ∧ ∃ G126 : Nat, (g + G126 ≤ G) ∧ w2_X26_behindRoute ω (d - 1) G126 l0 (l2 + 1) (l4 + (-1)) Θ (fun x126 Θ126 => ∀ (L126 : Le Θ Θ126) (r126 : -2147483648 ≤ x126 ∧ x126 < 2147483648), W2_X26_mailbox_130 ω d G l0 l1 l2 x126 ((l4 + (-1))) s0 (g + G126) Θ126 Q)) : W2_X26_mailbox_115 ω d G l0 l1 l2 l4 s0 g Θ Q := sorry
set_option maxHeartbeats 4000000 in
theorem s2_X26_mailbox_163 {ω : AO} {d G : Nat} {l0 l1 l2 : Int} {g : Nat} {Θ : Th} {Q : Th → Prop} (hB : W2_X26_mailbox_164 ω d G l0 l1 l2 0 (g) Θ Q) : W2_X26_mailbox_163 ω d G l0 l1 l2 g Θ Q := sorry
set_option maxHeartbeats 4000000 in
theorem s2_X26_mailbox_164 {ω : AO} {d G : Nat} {l0 l1 l2 s0 : Int} {g : Nat} {Θ : Th} {Q : Th → Prop} (hB : (-2147483648 ≤ s0 ∧ s0 < 2147483648) ∧ (∀ (c169 : s0 = 0), (kd Θ l0 = 39) ∧ ∀ (v184 : Int) (e184 : v184 = gt (vv Θ l0) 2) (r184 : -1 ≤ v184), (∀ (c187 : v184 < 0), ∀ (v197 : Int) (h197 : Str Θ v197 []), W2_X26_mailbox_199 ω d G l0 l1 v197 l1 (g) Θ Q) ∧ (∀ (c187 : 0 ≤ v184), ∀ (v191 : Int) (e191 : v191 = gt (vv Θ l0) 2) (r191 : -1 ≤ v191), W2_X26_mailbox_199 ω d G l0 l1 v191 l1 (g) Θ Q)) ∧ (∀ (c169 : ¬ s0 = 0), (kd Θ l0 = 39) ∧ ∀ (v173 : Int) (e173 : v173 = gt (vv Θ l0) 1) (r173 : -1 ≤ v173), (1 ≤ d) ∧ ∃ G177 : Nat, (g + G177 ≤ G) ∧ w2_X26_title ω (d - 1) G177 v173 l2 Θ (fun x177 Θ177 => ∀ (L177 : Le Θ Θ177) (r177 : -1 ≤ x177), W2_X26_mailbox_199 ω d G l0 l1 x177 l1 (g + G177) Θ177 Q))) : W2_X26_mailbox_164 ω d G l0 l1 l2 s0 g Θ Q := sorry
set_option maxHeartbeats 4000000 in
theorem s2_X26_mailbox_199 {ω : AO} {d G : Nat} {l0 l1 s0 s1 : Int} {g : Nat} {Θ : Th} {Q : Th → Prop} (hB : (kd Θ s1 = 42) ∧ (¬ fz Θ s1) ∧ (-1 ≤ s0) ∧ ∀ (Θ199 : Th) (t199 : Θ199 = pf Θ s1 0 s0), (kd Θ199 l0 = 39) ∧ ∀ (v203 : Int) (e203 : v203 = gt (vv Θ199 l0) 0) (r203 : -1 ≤ v203), (1 ≤ d) ∧ (kd Θ199 v203 = 3) ∧ (¬ fz Θ199 v203) ∧ (rf Θ199 l1) ∧ (adC (cp Θ199 v203) (len (vv Θ199 v203)) ≤ 60000000) ∧ (7 ≤ d) ∧ (g + (adC (cp Θ199 v203) (len (vv Θ199 v203)) - cp Θ199 v203).toNat ≤ G) ∧ ∀ (k207 : Int) (Θ207 : Th) (t207 : Θ207 = uq Θ199 v203 (3, vv Θ199 v203 ++ [l1], adC (cp Θ199 v203) (len (vv Θ199 v203)), k207)), Q Θ207) : W2_X26_mailbox_199 ω d G l0 l1 s0 s1 g Θ Q := sorry
def W2_X26_end_29 (ω : AO) (d G : Nat) (l0 : Int) (g : Nat) (Θ : Th) (Q : Th → Prop) : Prop := Hid (SJ2 ω yX26_end cX26_end 2 none d G (fun Sz Θz => (eU Sz (q2U ω Θz Q))) 29 [(2, l0), vN] [] g Θ)
set_option maxHeartbeats 4000000 in
theorem s2_X26_end {ω : AO} {d G : Nat} {l0 l1 : Int} {Θ : Th} {Q : Th → Prop} (hB : (-2147483648 ≤ l1 ∧ l1 < 2147483648) ∧ (∀ (c3 : ¬ l1 = 58), (1 ≤ d) ∧ (kd Θ l0 = 39) ∧ ∃ G15 : Nat, (0 + G15 ≤ G) ∧ w2_X26_mailbox ω (d - 1) G15 l0 Θ (fun Θ15 => ∀ (L15 : Le Θ Θ15), (∀ (c21 : ¬ l1 = 59), W2_X26_end_29 ω d G l0 (0 + G15) Θ15 Q) ∧ (∀ (c21 : l1 = 59), (¬ fz Θ15 l0) ∧ ∀ (Θ26 : Th) (t26 : Θ26 = pf Θ15 l0 4 0), W2_X26_end_29 ω d G l0 (0 + G15) Θ26 Q))) ∧ (∀ (c3 : l1 = 58), (kd Θ l0 = 39) ∧ (¬ fz Θ l0) ∧ ∀ (Θ8 : Th) (t8 : Θ8 = pf Θ l0 4 1), W2_X26_end_29 ω d G l0 (0) Θ8 Q)) : w2_X26_end ω d G l0 l1 Θ Q := sorry
set_option maxHeartbeats 4000000 in
theorem s2_X26_end_29 {ω : AO} {d G : Nat} {l0 : Int} {g : Nat} {Θ : Th} {Q : Th → Prop} (hB : (kd Θ l0 = 39) ∧ ∀ (v30 : Int) (e30 : v30 = gt (vv Θ l0) 1) (r30 : -1 ≤ v30), (1 ≤ d) ∧ (kd Θ v30 = 3) ∧ (¬ fz Θ v30) ∧ (2 ≤ d) ∧ (g ≤ G) ∧ ∀ (k33 : Int) (Θ33 : Th) (t33 : Θ33 = uq Θ v30 (3, [], cp Θ v30, k33)), (¬ fz Θ33 l0) ∧ (-1 ≤ (-1)) ∧ ∀ (Θ38 : Th) (t38 : Θ38 = pf Θ33 l0 2 (-1)), (¬ fz Θ38 l0) ∧ ∀ (Θ43 : Th) (t43 : Θ43 = pf Θ38 l0 3 0), Q Θ43) : W2_X26_end_29 ω d G l0 g Θ Q := sorry
def W2_X26_read_2 (ω : AO) (d G : Nat) (l0 l1 l2 : Int) (g : Nat) (Θ : Th) (Q : Th → Prop) : Prop := Hid (SJ2 ω yX26_read cX26_read 4 none d G (fun Sz Θz => (eU Sz (q2U ω Θz Q))) 2 [(2, l0), (2, l1), (0, l2), vN] [] g Θ)
def W2_X26_read_99 (ω : AO) (d G : Nat) (l0 l1 l2 l3 : Int) (g : Nat) (Θ : Th) (Q : Th → Prop) : Prop := Hid (SJ2 ω yX26_read cX26_read 4 none d G (fun Sz Θz => (eU Sz (q2U ω Θz Q))) 99 [(2, l0), (2, l1), (0, l2), (2, l3)] [] g Θ)
def W2_X26_read_84 (ω : AO) (d G : Nat) (l0 l1 l2 l3 : Int) (g : Nat) (Θ : Th) (Q : Th → Prop) : Prop := Hid (SJ2 ω yX26_read cX26_read 4 none d G (fun Sz Θz => (eU Sz (q2U ω Θz Q))) 84 [(2, l0), (2, l1), (0, l2), (2, l3)] [] g Θ)
set_option maxHeartbeats 4000000 in
theorem s2_X26_read {ω : AO} {d G : Nat} {l0 l1 : Int} {Θ : Th} {Q : Th → Prop} (hB : W2_X26_read_2 ω d G l0 l1 0 (0) Θ Q) : w2_X26_read ω d G l0 l1 Θ Q := sorry
set_option maxHeartbeats 4000000 in
theorem s2_X26_read_2 {ω : AO} {d G : Nat} {l0 l1 l2 : Int} {g : Nat} {Θ : Th} {Q : Th → Prop} (hB : (1 ≤ d) ∧ (kd Θ l1 = 3) ∧ (g ≤ G) ∧ ∀ (x4 : Int) (e4 : x4 = len (vv Θ l1)) (r4 : -2147483648 ≤ x4 ∧ x4 < 2147483648), (-2147483648 ≤ l2 ∧ l2 < 2147483648) ∧ (∀ (c7 : x4 ≤ l2), (kd Θ l0 = 39) ∧ ∃ G151 : Nat, (g + G151 ≤ G) ∧ w2_X26_end ω (d - 1) G151 l0 44 Θ (fun Θ151 => ∀ (L151 : Le Θ Θ151), (g + G151 ≤ G) ∧ Q Θ151)) ∧ (∀ (c7 : l2 < x4), (0 ≤ l2 ∧ l2 < len (vv Θ l1)) ∧ (3 ≤ d) ∧ ∀ (x12 : Int) (e12 : x12 = gt (vv Θ l1) l2) (r12 : -1 ≤ x12), (x12 < 0 ∨ kd Θ x12 ∈ [41]) ∧ (kd Θ x12 = 41) ∧ ∀ (v20 : Int) (e20 : v20 = gt (vv Θ x12) 0) (r20 : -1 ≤ v20), (-1 ≤ ((ω.2.2.1 "#V" 13 : Int) - 1)) ∧ (∀ (c26 : ¬ v20 = ((ω.2.2.1 "#V" 13 : Int) - 1)), (kd Θ l0 = 39) ∧ ∀ (v51 : Int) (e51 : v51 = gt (vv Θ l0) 3) (r51 : 0 ≤ v51 ∧ v51 < 2), (∀ (c54 : ¬ v51 = 0), W2_X26_read_99 ω d G l0 l1 l2 x12 (g) Θ Q) ∧ (∀ (c54 : v51 = 0), ∃ G60 : Nat, (g + G60 ≤ G) ∧ w2_X28_is ω (d - 1) G60 x12 44 Θ (fun x60 Θ60 => ∀ (L60 : Le Θ Θ60) (r60 : x60 = 0 ∨ x60 = 1), (∀ (c63 : ¬ x60 = 0), W2_X26_read_84 ω d G l0 l1 l2 x12 (g + G60) Θ60 Q) ∧ (∀ (c63 : x60 = 0), ∃ G69 : Nat, (g + G60 + G69 ≤ G) ∧ w2_X28_is ω (d - 1) G69 x12 59 Θ60 (fun x69 Θ69 => ∀ (L69 : Le Θ60 Θ69) (r69 : x69 = 0 ∨ x69 = 1), (∀ (c72 : ¬ x69 = 0), W2_X26_read_84 ω d G l0 l1 l2 x12 (g + G60 + G69) Θ69 Q) ∧ (∀ (c72 : x69 = 0), ∃ G78 : Nat, (g + G60 + G69 + G78 ≤ G) ∧ w2_X28_is ω (d - 1) G78 x12 58 Θ69 (fun x78 Θ78 => ∀ (L78 : Le Θ69 Θ78) (r78 : x78 = 0 ∨ x78 = 1), (∀ (c81 : x78 = 0), W2_X26_read_99 ω d G l0 l1 l2 x12 (g + G60 + G69 + G78) Θ78 Q) ∧ (∀ (c81 : ¬ x78 = 0), W2_X26_read_84 ω d G l0 l1 l2 x12 (g + G60 + G69 + G78) Θ78 Q)))))))) ∧ (∀ (c26 : v20 = ((ω.2.2.1 "#V" 13 : Int) - 1)), (kd Θ l0 = 39) ∧ ∀ (v30 : Int) (e30 : v30 = gt (vv Θ l0) 1) (r30 : -1 ≤ v30), (kd Θ v30 = 3) ∧ ∀ (x33 : Int) (e33 : x33 = if vv Θ v30 = [] then 1 else 0) (r33 : x33 = 0 ∨ x33 = 1), (∀ (c36 : ¬ x33 = 0), W2_X26_read_2 ω d G l0 l1 ((l2 + 1)) (g) Θ Q) ∧ (∀ (c36 : x33 = 0), ∀ (v41 : Int) (e41 : v41 = gt (vv Θ x12) 1) (r41 : -1 ≤ v41), (¬ fz Θ l0) ∧ ∀ (Θ44 : Th) (t44 : Θ44 = pf Θ l0 2 v41), W2_X26_read_2 ω d G l0 l1 ((l2 + 1)) (g) Θ44 Q)))) : W2_X26_read_2 ω d G l0 l1 l2 g Θ Q := sorry
set_option maxHeartbeats 4000000 in
theorem s2_X26_read_99 {ω : AO} {d G : Nat} {l0 l1 l2 l3 : Int} {g : Nat} {Θ : Th} {Q : Th → Prop} (hB : (kd Θ l0 = 39) ∧ ∀ (v100 : Int) (e100 : v100 = gt (vv Θ l0) 1) (r100 : -1 ≤ v100), (1 ≤ d) ∧ (kd Θ v100 = 3) ∧ (¬ fz Θ v100) ∧ (rf Θ l3) ∧ (adC (cp Θ v100) (len (vv Θ v100)) ≤ 60000000) ∧ (7 ≤ d) ∧ (g + (adC (cp Θ v100) (len (vv Θ v100)) - cp Θ v100).toNat ≤ G) ∧ ∀ (k104 : Int) (Θ104 : Th) (t104 : Θ104 = uq Θ v100 (3, vv Θ v100 ++ [l3], adC (cp Θ v100) (len (vv Θ v100)), k104)), ∀ (v110 : Int) (e110 : v110 = gt (vv Θ104 l0) 3) (r110 : 0 ≤ v110 ∧ v110 < 2), (∀ (c113 : v110 = 0), (kd Θ104 l3 = 41) ∧ ∃ G136 : Nat, (g + (adC (cp Θ v100) (len (vv Θ v100)) - cp Θ v100).toNat + G136 ≤ G) ∧ w2_X28_is ω (d - 1) G136 l3 60 Θ104 (fun x136 Θ136 => ∀ (L136 : Le Θ104 Θ136) (r136 : x136 = 0 ∨ x136 = 1), (¬ fz Θ136 l0) ∧ ∀ (Θ139 : Th) (t139 : Θ139 = pf Θ136 l0 3 x136), W2_X26_read_2 ω d G l0 l1 ((l2 + 1)) (g + (adC (cp Θ v100) (len (vv Θ v100)) - cp Θ v100).toNat + G136) Θ139 Q)) ∧ (∀ (c113 : ¬ v110 = 0), (kd Θ104 l3 = 41) ∧ ∃ G119 : Nat, (g + (adC (cp Θ v100) (len (vv Θ v100)) - cp Θ v100).toNat + G119 ≤ G) ∧ w2_X28_is ω (d - 1) G119 l3 62 Θ104 (fun x119 Θ119 => ∀ (L119 : Le Θ104 Θ119) (r119 : x119 = 0 ∨ x119 = 1), (∀ (c122 : ¬ x119 = 0), (¬ fz Θ119 l0) ∧ ∀ (Θ139 : Th) (t139 : Θ139 = pf Θ119 l0 3 0), W2_X26_read_2 ω d G l0 l1 ((l2 + 1)) (g + (adC (cp Θ v100) (len (vv Θ v100)) - cp Θ v100).toNat + G119) Θ139 Q) ∧ (∀ (c122 : x119 = 0), (¬ fz Θ119 l0) ∧ ∀ (Θ139 : Th) (t139 : Θ139 = pf Θ119 l0 3 1), W2_X26_read_2 ω d G l0 l1 ((l2 + 1)) (g + (adC (cp Θ v100) (len (vv Θ v100)) - cp Θ v100).toNat + G119) Θ139 Q)))) : W2_X26_read_99 ω d G l0 l1 l2 l3 g Θ Q := sorry
set_option maxHeartbeats 4000000 in
theorem s2_X26_read_84 {ω : AO} {d G : Nat} {l0 l1 l2 l3 : Int} {g : Nat} {Θ : Th} {Q : Th → Prop} (hB : (kd Θ l3 = 41) ∧ ∀ (v86 : Int) (e86 : v86 = gt (vv Θ l3) 1) (r86 : -1 ≤ v86), (1 ≤ d) ∧ (kd Θ v86 = 2) ∧ (0 ≤ (0 : Int) ∧ (0 : Int) < len (vv Θ v86)) ∧ (5 ≤ d) ∧ (g ≤ G) ∧ ∀ (x90 : Int) (e90 : x90 = gt (vv Θ v86) (0 : Int)) (r90 : 0 ≤ x90 ∧ x90 < 65536), (kd Θ l0 = 39) ∧ ∃ G93 : Nat, (g + G93 ≤ G) ∧ w2_X26_end ω (d - 1) G93 l0 x90 Θ (fun Θ93 => ∀ (L93 : Le Θ Θ93), W2_X26_read_2 ω d G l0 l1 ((l2 + 1)) (g + G93) Θ93 Q)) : W2_X26_read_84 ω d G l0 l1 l2 l3 g Θ Q := sorry
/-! 64.ab.lean.txt -/
/-! addresses: names, routes, dotted words, titles -/
set_option maxRecDepth 100000
/-- a text is appended to a builder -/
theorem BI.apS {l m : List Int} {c e : Int} {g0 g : Nat} (h : BI l c e g0 g) : BI (l ++ m) (bC c (len l + len m)) (max e (wide m)) g0 (g + (bK (bC c (len l + len m)) (max e (wide m)) - bK c e).toNat) := sorry
theorem BLD.apS {Θ Θ' : Th} {b : Int} {m n : List Int} {g0 g : Nat} (h : BLD Θ b m g0 g) (t : Θ' = uq Θ b (1, vv Θ b ++ n, bC (cp Θ b) (len (vv Θ b) + len n), max (cx Θ b) (wide n))) :
    BLD Θ' b (m ++ n) g0 (g + (bK (bC (cp Θ b) (len (vv Θ b) + len n)) (max (cx Θ b) (wide n)) - bK (cp Θ b) (cx Θ b)).toNat) := sorry
theorem BLD.gaS {Θ : Th} {b : Int} {m n : List Int} {g0 g G : Nat} (h : BLD Θ b m g0 g) (hG : (g0 : Int) + 4 * (len m + len n) + 16 ≤ G) : g + (bK (bC (cp Θ b) (len (vv Θ b) + len n)) (max (cx Θ b) (wide n)) - bK (cp Θ b) (cx Θ b)).toNat ≤ G := sorry
theorem BLD.caS {Θ : Th} {b : Int} {m n : List Int} {g0 g : Nat} (h : BLD Θ b m g0 g) : bC (cp Θ b) (len (vv Θ b) + len n) ≤ 2 * len m + 2 * len n + 18 := sorry
def wo (us : List Wo) (k : Int) : Wo := us.getD k.toNat (0, [])
section ADX
variable {ω : AO} {d G : Nat} {Θ Θ1 : Th} {a p q n k f t x y c e cm ia ig : Int} {rs : List Int} {us : List Wo} {P : Int → Wo → Prop}
theorem all2.wat (h : all2 P rs us) (hk : 0 ≤ k ∧ k < len rs) : P (gt rs k) (wo us k) := sorry
theorem sgO.wat (h : sgO us) (hz : all2 P rs us) (hk : 0 ≤ k ∧ k < len rs) : (wo us k).1 = 12 → 0 < len (wo us k).2 := sorry
theorem u_X28_isB {r : Int} {w : Wo} {Q : Int → Th → Prop} (hd : 5 ≤ d) (h : CutO ω Θ r w) (hn : w.1 = 12 → 0 < len w.2) (hq : inI x) (hQ : ∀ z, z = (if isG w x then 1 else 0) → Q z Θ) : w2_X28_is ω d G r x Θ Q := sorry
abbrev plW (w : Wo) : Prop := (w.1 = 9 ∨ w.1 = 10) ∨ isG w 46
def nmW (us : List Wo) (n : Int) : Prop := ∀ k, 0 ≤ k → k < n → plW (wo us k)
theorem u_X26_isName {Q : Int → Th → Prop} (hd : 6 ≤ d) (hq : xo Θ q = (3, rs, c, e)) (hw : all2 (CutO ω Θ) rs us) (hs : sgO us) (hn : 0 ≤ n ∧ n ≤ len rs) (hl : len rs ≤ 1000000) (hQ1 : nmW us n → Q 1 Θ) (hQ0 : ¬ nmW us n → Q 0 Θ) : w2_X26_isName ω d G q n Θ Q := sorry
/-- whether there is a colon -/
def hcB (us : List Wo) (k t : Int) : Bool := if h : k < t then decide (isG (wo us k) 58) || hcB us (k + 1) t else false
termination_by (t - k).toNat
theorem u_X26_hasColon {Q : Int → Th → Prop} (hd : 6 ≤ d) (ha : xo Θ a = (39, [p, q, cm, ia, ig], 0, 0)) (hq : xo Θ q = (3, rs, c, e)) (hw : all2 (CutO ω Θ) rs us) (hs : sgO us) (hf : 0 ≤ f) (ht : t ≤ len rs) (hl : len rs ≤ 1000000) (hf2 : f ≤ 2000000) (ht0 : -10 ≤ t)
    (hQ : ∀ z, z = (if hcB us f t = true then 1 else 0) → Q z Θ) : w2_X26_hasColon ω d G a f t Θ Q := sorry
/-- where the address begins behind a route -/
def brF (us : List Wo) (f t k : Int) : Int :=
  if h : k < t then
    if isG (wo us k) 58 then k + 1
    else if (wo us k).1 = 9 ∨ isG (wo us k) 64 ∨ isG (wo us k) 44 ∨ isG (wo us k) 46 then brF us f t (k + 1)
    else if hcB us k t = true then -1 else f
  else f
termination_by (t - k).toNat
theorem u_X26_behindRoute {Q : Int → Th → Prop} (hd : 7 ≤ d) (ha : xo Θ a = (39, [p, q, cm, ia, ig], 0, 0)) (hq : xo Θ q = (3, rs, c, e)) (hw : all2 (CutO ω Θ) rs us) (hs : sgO us) (hf : 0 ≤ f) (ht : t ≤ len rs) (hl : len rs ≤ 1000000) (hf2 : f ≤ 2000000) (ht0 : -10 ≤ t)
    (hQ : Q (brF us f t f) Θ) : w2_X26_behindRoute ω d G a f t Θ Q := sorry
/-- words with dots between: the text, and where they end -/
abbrev dtP (us : List Wo) (y k : Int) : Prop := (wo us k).1 = 9 ∨ ¬ y = 0 ∧ ((wo us k).1 = 9 ∨ (wo us k).1 = 10)
def dtT (us : List Wo) (t y k : Int) : List Int :=
  if h : k < t ∧ dtP us y k then
    if k + 1 = t ∨ ¬ isG (wo us (k + 1)) 46 then (wo us k).2 else (wo us k).2 ++ ([46] ++ dtT us t y (k + 2))
  else []
termination_by (t - k).toNat
def dtE (us : List Wo) (t y k : Int) : Int :=
  if h : k < t ∧ dtP us y k then
    if k + 1 = t ∨ ¬ isG (wo us (k + 1)) 46 then k + 1 else dtE us t y (k + 2)
  else -1
termination_by (t - k).toNat
theorem dtE_in : ∀ (N : Nat) (k : Int), (t - k).toNat = N → 0 ≤ k → dtE us t y k = -1 ∨ k < dtE us t y k ∧ dtE us t y k ≤ t := sorry
theorem u_X26_dotted {b : Int} {gs : Nat} {Q : Int → Th → Prop} (hd : 11 ≤ d) (ha : xo Θ a = (39, [p, q, cm, ia, ig], 0, 0)) (hq : xo Θ q = (3, rs, c, e)) (hw : all2 (CutO ω Θ) rs us) (hs : sgO us) (hb : BLD Θ b [] gs gs) (hf : 0 ≤ f) (ht : t ≤ len rs) (hl : len rs ≤ 1000000) (ht0 : -10 ≤ t) (hf2 : f ≤ 2000000) (hy : y = 0 ∨ y = 1)
    (hT : len (dtT us t y f) ≤ 1000000) (hG : 4 * len (dtT us t y f) + 16 ≤ (G : Int)) (hQ : ∀ Θ', GrX (· = b) Θ Θ' → kd Θ' b = 1 → vv Θ' b = dtT us t y f → Q (dtE us t y f) Θ') : w2_X26_dotted ω d G a f t y b Θ Q := sorry
/-- the title of words -/
def ttF (us : List Wo) (n k : Int) : List Int :=
  if h : k < n then (if 0 < k ∧ ¬ isG (wo us k) 46 then [32] else []) ++ ((wo us k).2 ++ ttF us n (k + 1)) else []
termination_by (n - k).toNat
theorem u_X26_title {Q : Int → Th → Prop} (hd : 11 ≤ d) (hq : xo Θ q = (3, rs, c, e)) (hw : all2 (CutO ω Θ) rs us) (hs : sgO us) (hn : 0 ≤ n ∧ n ≤ len rs) (hl : len rs ≤ 1000000) (hT : len (ttF us n 0) ≤ 1000000) (hG : 5 * len (ttF us n 0) + 27 ≤ (G : Int))
    (hQ : ∀ r Θ', NewS Θ Θ' r (ttF us n 0) → Q r Θ') : w2_X26_title ω d G q n Θ Q := sorry
end ADX

/-! 64.ac.lean.txt -/
/-! addresses: one address, one mailbox -/
set_option maxRecDepth 100000
def wsum : List Wo → Int
  | [] => 0
  | w :: r => len w.2 + 1 + wsum r
theorem wsum_nn : ∀ us : List Wo, 0 ≤ wsum us := sorry
theorem wsum_app : ∀ us vs : List Wo, wsum (us ++ vs) = wsum us + wsum vs := sorry
theorem wsum_drop : ∀ (us : List Wo) (n : Nat), wsum (us.drop n) ≤ wsum us := sorry
theorem wo_drop {us : List Wo} {k : Int} (h : 0 ≤ k ∧ k.toNat < us.length) : us.drop k.toNat = wo us k :: us.drop (k + 1).toNat := sorry
theorem wo_out {us : List Wo} {k : Int} (h : ¬ k.toNat < us.length) : wo us k = (0, []) := sorry
theorem wsum_at {us : List Wo} {k : Int} (h0 : 0 ≤ k) : len (wo us k).2 + wsum (us.drop (k + 1).toNat) ≤ wsum (us.drop k.toNat) := sorry
theorem wsum_at1 {us : List Wo} {k : Int} (h0 : 0 ≤ k) (h : k.toNat < us.length) : wsum (us.drop k.toNat) = len (wo us k).2 + 1 + wsum (us.drop (k + 1).toNat) := by
  rw [wo_drop ⟨h0, h⟩]; rfl
theorem dtP_in {us : List Wo} {y k : Int} (h : dtP us y k) : k.toNat < us.length := sorry
theorem dtT_len {us : List Wo} {t y : Int} : ∀ (N : Nat) (k : Int), (t - k).toNat = N → 0 ≤ k → len (dtT us t y k) ≤ wsum (us.drop k.toNat) := sorry
theorem ttF_len {us : List Wo} {n : Int} (hn : n ≤ (us.length : Int)) : ∀ (N : Nat) (k : Int), (n - k).toNat = N → 0 ≤ k → len (ttF us n k) ≤ wsum (us.drop k.toNat) := sorry
theorem wo_len {us : List Wo} {k : Int} (h0 : 0 ≤ k) : len (wo us k).2 ≤ wsum us := sorry
/-- a title, a local part, a domain -/
abbrev Mb : Type := List Int × List Int × List Int
def spD (us : List Wo) (t k : Int) : Option (List Int) :=
  if (wo us (k + 1)).1 = 11 then (if k + 2 = t then some ([91] ++ (wo us (k + 1)).2 ++ [93]) else none) else if dtE us t 0 (k + 1) = t then some (dtT us t 0 (k + 1)) else none
def spS (us : List Wo) (f t : Int) : Option (List Int × List Int) :=
  if dtE us t 1 f < 0 then none
  else if dtE us t 1 f = t then some (dtT us t 1 f, [])
  else if isG (wo us (dtE us t 1 f)) 64 ∧ dtE us t 1 f + 1 ≠ t then (match spD us t (dtE us t 1 f) with | some dm => some (dtT us t 1 f, dm) | none => none)
  else none
def MbO (Θ : Th) (r : Int) (v : Mb) : Prop := ∃ a b c, xo Θ r = (42, [a, b, c, -1, -1], 0, 0) ∧ Str Θ a v.1 ∧ Str Θ b v.2.1 ∧ Str Θ c v.2.2 ∧ ¬ fz Θ r
section SPX
variable {ω : AO} {d G : Nat} {Θ Θ1 Θ2 : Th} {a m p q n k f t x y c e cm ia ig : Int} {rs : List Int} {us : List Wo} {ex ex2 : Int → Prop}
theorem GrX.trf (h : GrX ex Θ Θ1) (h2 : GrX ex2 Θ1 Θ2) (he : ∀ b, ex2 b → kd Θ b = 0 ∨ ex b) (hp : ∀ b, ex b → 0 < kd Θ b ∧ kd Θ b < 200) : GrX ex Θ Θ2 := sorry
theorem u_X26_spec {M : Int} {Q : Int → Th → Prop} (hd : 12 ≤ d) (ha : xo Θ a = (39, [p, q, cm, ia, ig], 0, 0)) (hq : xo Θ q = (3, rs, c, e)) (hw : all2 (CutO ω Θ) rs us) (hs : sgO us) (hm : MbO Θ m ([], [], [])) (hf : 0 ≤ f) (ht : t ≤ len rs) (hl : len rs ≤ 1000000) (ht0 : -10 ≤ t) (hf2 : f ≤ 2000000)
    (hM : wsum us ≤ M ∧ M ≤ 900000) (hG : 10 * M + 90 ≤ (G : Int)) (hQ1 : ∀ lo dm Θ', spS us f t = some (lo, dm) → GrX (· = m) Θ Θ' → MbO Θ' m ([], lo, dm) → Q 1 Θ') (hQ0 : ∀ Θ', spS us f t = none → GrX (· = m) Θ Θ' → Q 0 Θ') : w2_X26_spec ω d G a m f t Θ Q := sorry
end SPX

/-! 64.ad.lean.txt -/
/-! addresses: a mailbox out of what was gathered; all of a value -/
set_option maxRecDepth 100000
def nmwB (us : List Wo) (n k : Int) : Bool := if h : k < n then decide (plW (wo us k)) && nmwB us n (k + 1) else true
termination_by (n - k).toNat
theorem nmwB_iff {us : List Wo} {n : Int} : ∀ (N : Nat) (k : Int), (n - k).toNat = N → (nmwB us n k = true ↔ ∀ j, k ≤ j → j < n → plW (wo us j)) := sorry
theorem nmwB_nm {us : List Wo} {n : Int} : nmwB us n 0 = true ↔ nmW us n := nmwB_iff _ 0 rfl
/-- the first < -/
def agF (us : List Wo) (k : Int) : Int := if h : k < (us.length : Int) then if isG (wo us k) 60 then k else agF us (k + 1) else k
termination_by ((us.length : Int) - k).toNat
theorem agF_in {us : List Wo} : ∀ (N : Nat) (k : Int), ((us.length : Int) - k).toNat = N → k ≤ us.length → k ≤ agF us k ∧ agF us k ≤ us.length := sorry
def mbS (us : List Wo) (ct : List Int) (A f t : Int) : Option Mb :=
  if f < 0 then none else match spS us f t with
    | some (lo, dm) => some (if 0 < f ∧ 0 < A then ttF us A 0 else ct, lo, dm)
    | none => none
/-- what was gathered as a mailbox -/
def mbF (us : List Wo) (ct : List Int) : Option Mb :=
  if us.length = 0 then none
  else if agF us 0 < (us.length : Int) then
    if nmwB us (agF us 0) 0 = true ∧ isG (wo us ((us.length : Int) - 1)) 62 then mbS us ct (agF us 0) (brF us (agF us 0 + 1) ((us.length : Int) - 1) (agF us 0 + 1)) ((us.length : Int) - 1) else none
  else mbS us ct (agF us 0) 0 us.length
theorem brF_in {us : List Wo} {f t : Int} : ∀ (N : Nat) (k : Int), (t - k).toNat = N → 0 ≤ k → 0 ≤ f → brF us f t k = -1 ∨ brF us f t k = f ∨ k < brF us f t k ∧ brF us f t k ≤ t := sorry
def CmO (Θ : Th) (cm : Int) (ct : List Int) : Prop := (cm = -1 ∧ ct = []) ∨ Str Θ cm ct
theorem blS {ω : AO} {y : MethodName} {cc : ByteArray} {nL : Nat} {ret : Option FieldType} {d G : Nat} {P : AS → Th → Option AV → AS → Prop} {pc : Nat} {vs st : List AV} {g : Nat} {Θ : Th} (h : Bl Θ → Hid (SJ2 ω y cc nL ret d G P pc vs st g Θ)) : Hid (SJ2 ω y cc nL ret d G P pc vs st g Θ) := sorry
section MBX
variable {ω : AO} {d G : Nat} {Θ Θ1 Θ2 : Th} {a m p q r cm ia ig c e c2 e2 : Int} {rs ps ct : List Int} {us : List Wo} {ex : Int → Prop} {v : Mb}
theorem CmO.le (h : CmO Θ cm ct) (L : Le Θ Θ1) : CmO Θ1 cm ct := h.elim Or.inl (fun z => Or.inr (z.le L))
theorem MbO.kd (h : MbO Θ r v) : kd Θ r = 42 := by obtain ⟨a, b, c, h1, -⟩ := h; exact kd_of h1
theorem MbO.keep (h : MbO Θ r v) (g : GrX ex Θ Θ1) (hn : ¬ ex r) : MbO Θ1 r v := sorry
theorem u_X29_init {Q : Th → Prop} (hd : 1 ≤ d) (h : xo Θ r = (42, [-1, -1, -1, -1, -1], 0, 0)) (hf : ¬ fz Θ r) (hQ : ∀ Θ', GrX (· = r) Θ Θ' → MbO Θ' r ([], [], []) → Q Θ') : w2_X29_init ω d G r Θ Q := sorry
theorem u_X26_mailbox {M : Int} {Q : Th → Prop} (hd : 13 ≤ d) (ha : xo Θ a = (39, [p, q, cm, ia, ig], 0, 0)) (hq : xo Θ q = (3, rs, c, e)) (hw : all2 (CutO ω Θ) rs us) (hs : sgO us) (hl : len rs ≤ 900000) (hp : xo Θ p = (3, ps, c2, e2)) (hfp : ¬ fz Θ p) (hcm : CmO Θ cm ct)
    (hM : wsum us ≤ M ∧ M ≤ 900000) (hc : c2 ≤ adC c2 (len ps) ∧ adC c2 (len ps) ≤ 60000000) (hG : us.length ≠ 0 → 15 * M + 118 ≤ (G : Int)) (hGs : ∀ v, mbF us ct = some v → 15 * M + 118 + (adC c2 (len ps) - c2) ≤ (G : Int))
    (hN : mbF us ct = none → ∀ Θ', Gr Θ Θ' → Q Θ') (hS : ∀ v Θ' r x, mbF us ct = some v → GrX (· = p) Θ Θ' → xo Θ' p = (3, ps ++ [r], adC c2 (len ps), x) → MbO Θ' r v → Q Θ') : w2_X26_mailbox ω d G a Θ Q := sorry
end MBX

/-! 64.ae.lean.txt -/
/-! addresses: all of a value -/
set_option maxRecDepth 100000
def endF (us : List Wo) (ct : List Int) (sg : Int) : List Mb := if sg = 58 then [] else (mbF us ct).toList
/-- the mailboxes of words -/
def adR : List Wo → List Wo → List Int → Int → List Mb
  | [], us, ct, _ => endF us ct 44
  | w :: r, us, ct, ia =>
    if w.1 = 13 then adR r us (if us = [] then ct else w.2) ia
    else if ia = 0 ∧ (isG w 44 ∨ isG w 59 ∨ isG w 58) then endF us ct (gt w.2 0) ++ adR r [] [] 0
    else adR r (us ++ [w]) ct (if ia = 0 then (if isG w 60 then 1 else 0) else if isG w 62 then 0 else 1)
section REX
variable {ω : AO} {d G : Nat} {Θ Θ1 Θ2 : Th} {a m p q r cm ia ig c e c2 e2 : Int} {rs ps ct : List Int} {us : List Wo} {ex : Int → Prop} {v : Mb}
def exA (a p q : Int) : Int → Prop := fun b => b = a ∨ b = p ∨ b = q
theorem u_X26_end {M sg : Int} {Q : Th → Prop} (hd : 14 ≤ d) (ha : xo Θ a = (39, [p, q, cm, ia, ig], 0, 0)) (hfa : ¬ fz Θ a) (hq : xo Θ q = (3, rs, c, e)) (hfq : ¬ fz Θ q) (hw : all2 (CutO ω Θ) rs us) (hs : sgO us) (hl : len rs ≤ 900000) (hp : xo Θ p = (3, ps, c2, e2)) (hfp : ¬ fz Θ p)
    (hpq : p ≠ q) (hcm : CmO Θ cm ct) (hM : wsum us ≤ M ∧ M ≤ 900000) (hc : c2 ≤ adC c2 (len ps) ∧ adC c2 (len ps) ≤ 60000000) (hG : us.length ≠ 0 → 15 * M + 118 ≤ (G : Int)) (hGs : endF us ct sg ≠ [] → 15 * M + 118 + (adC c2 (len ps) - c2) ≤ (G : Int)) (hsg : inI sg)
    (hQ : ∀ Θ' ig' x rn c3 e3, GrX (exA a p q) Θ Θ' → xo Θ' a = (39, [p, q, -1, 0, ig'], 0, 0) → xo Θ' q = (3, [], c, x) → xo Θ' p = (3, ps ++ rn, c3, e3) → all2 (MbO Θ') rn (endF us ct sg) → ((rn = [] ∧ c3 = c2) ∨ ∃ r, rn = [r] ∧ c3 = adC c2 (len ps) ∧ us.length ≠ 0) → Q Θ') : w2_X26_end ω d G a sg Θ Q := sorry
theorem u_X26_init {Q : Th → Prop} (hd : 4 ≤ d) (h : xo Θ a = (39, [-1, -1, -1, 0, 0], 0, 0)) (hf : ¬ fz Θ a) (hG : 2 ≤ G) (hQ : ∀ Θ' p q e1 e2, GrX (· = a) Θ Θ' → xo Θ' a = (39, [p, q, -1, 0, 0], 0, 0) → xo Θ' p = (3, [], 0, e1) → xo Θ' q = (3, [], 0, e2) → ¬ fz Θ' p → ¬ fz Θ' q → p ≠ q → kd Θ p = 0 → kd Θ q = 0 → Q Θ') : w2_X26_init ω d G a Θ Q := sorry
end REX

/-! 64.af.lean.txt -/
/-! addresses: read -/
set_option maxRecDepth 100000
section RDX
variable {ω : AO} {d G : Nat} {Θ Θ1 Θ2 : Th} {a p q wl cw ew k : Int} {g : Nat} {wrs : List Int} {ws : List Wo} {T : List Mb} {Q : Th → Prop}
/-- what does not change -/
def RDF (ω : AO) (Θ : Th) (a p q wl : Int) (wrs : List Int) (ws : List Wo) : Prop :=
  kd Θ a = 39 ∧ kd Θ p = 3 ∧ kd Θ q = 3 ∧ kd Θ wl = 3 ∧ (¬ fz Θ a ∧ ¬ fz Θ p ∧ ¬ fz Θ q) ∧ (p ≠ q ∧ wl ≠ p ∧ wl ≠ q) ∧ (∃ c e, xo Θ wl = (3, wrs, c, e)) ∧ all2 (CutO ω Θ) wrs ws ∧ sgO ws ∧ len wrs ≤ 800000 ∧ wsum ws ≤ 900000
/-- how far it is: rows, capacities, gas -/
def RDN (wrs : List Int) (ws : List Wo) (k : Int) (g : Nat) (rs ps : List Int) (us : List Wo) (c c2 : Int) : Prop :=
  0 ≤ k ∧ k ≤ len wrs ∧ (∃ gp, LI ps c2 0 gp) ∧ len ps + len rs ≤ k ∧ ((c = 0 ∨ 10 ≤ c) ∧ len rs ≤ c ∧ c ≤ 2 * len wrs + 10) ∧ (g : Int) + 15 * wsum (ws.drop k.toNat) + 118 * (len wrs - k) + 15 * wsum us + 118 * len rs ≤ 15 * wsum ws + 118 * len wrs + c2 + c ∧ wsum us + wsum (ws.drop k.toNat) ≤ wsum ws
def RDX (ω : AO) (Θ Θ1 : Th) (a p q : Int) (wrs : List Int) (ws : List Wo) (T : List Mb) (k : Int) (g : Nat) (rs ps : List Int) (us : List Wo) (ct : List Int) (done : List Mb) (cm ia ig c ec c2 ep : Int) : Prop :=
  GrX (exA a p q) Θ Θ1 ∧ xo Θ1 a = (39, [p, q, cm, ia, ig], 0, 0) ∧ xo Θ1 q = (3, rs, c, ec) ∧ all2 (CutO ω Θ1) rs us ∧ sgO us ∧ CmO Θ1 cm ct ∧ xo Θ1 p = (3, ps, c2, ep) ∧ all2 (MbO Θ1) ps done ∧ RDN wrs ws k g rs ps us c c2 ∧ (ia = 0 ∨ ia = 1) ∧ T = done ++ adR (ws.drop k.toNat) us ct ia
def RDI (ω : AO) (Θ Θ1 : Th) (a p q : Int) (wrs : List Int) (ws : List Wo) (T : List Mb) (k : Int) (g : Nat) : Prop :=
  ∃ rs ps us ct done cm ia ig c ec c2 ep, RDX ω Θ Θ1 a p q wrs ws T k g rs ps us ct done cm ia ig c ec c2 ep
theorem RDF.ex (F : RDF ω Θ a p q wl wrs ws) : ∀ b, exA a p q b → 0 < kd Θ b ∧ kd Θ b < 200 := sorry
theorem RDF.kx (F : RDF ω Θ a p q wl wrs ws) (g : GrX (exA a p q) Θ Θ1) : kd Θ1 a = 39 ∧ kd Θ1 p = 3 ∧ kd Θ1 q = 3 ∧ ¬ fz Θ1 a ∧ ¬ fz Θ1 p ∧ ¬ fz Θ1 q ∧ a ≠ p ∧ a ≠ q ∧ ∃ c e, xo Θ1 wl = (3, wrs, c, e) := sorry
theorem mbo_exA {r : Int} {v : Mb} (h : MbO Θ1 r v) (g : GrX (exA a p q) Θ1 Θ2) (h1 : kd Θ1 a = 39) (h2 : kd Θ1 p = 3) (h3 : kd Θ1 q = 3) : MbO Θ2 r v := sorry
theorem adC_W {c n W : Int} (h1 : c = 0 ∨ 10 ≤ c) (h2 : 0 ≤ n ∧ n ≤ c) (h3 : c ≤ 2 * W + 10) (h4 : n < W) : c ≤ adC c n ∧ (adC c n = 0 ∨ 10 ≤ adC c n) ∧ n + 1 ≤ adC c n ∧ adC c n ≤ 2 * W + 10 := sorry
/-- numbers: one more word -/
theorem RDN.add {rs ps : List Int} {us : List Wo} {c c2 x : Int} (h : RDN wrs ws k g rs ps us c c2) (hk : k < len wrs) (hl : wrs.length = ws.length) (k' : Int) (hk' : k' = k + 1) : RDN wrs ws k' (g + (adC c (len rs) - c).toNat) (rs ++ [x]) ps (us ++ [wo ws k]) (adC c (len rs)) c2 := sorry
theorem RDN.skip {rs ps : List Int} {us : List Wo} {c c2 : Int} (h : RDN wrs ws k g rs ps us c c2) (hk : k < len wrs) (hl : wrs.length = ws.length) : RDN wrs ws (k + 1) g rs ps us c c2 := sorry
theorem rd_99 {rs ps ct : List Int} {us : List Wo} {done : List Mb} {cm ia ig c ec c2 ep x12 : Int} (hd : 15 ≤ d) (F : RDF ω Θ a p q wl wrs ws) (X : RDX ω Θ Θ1 a p q wrs ws T k g rs ps us ct done cm ia ig c ec c2 ep) (hk : k < len wrs) (hG : (g : Int) + (adC c (len rs) - c) ≤ G) (hc0 : CutO ω Θ1 x12 (wo ws k)) (hsw : (wo ws k).1 = 12 → 0 < len (wo ws k).2)
    (hn : ¬ (ia = 0 ∧ (isG (wo ws k) 44 ∨ isG (wo ws k) 59 ∨ isG (wo ws k) 58))) (hkd : ¬ (wo ws k).1 = 13) (ih : ∀ Θ2 g2, RDI ω Θ Θ2 a p q wrs ws T (k + 1) g2 → W2_X26_read_2 ω d G a wl (k + 1) g2 Θ2 Q) : W2_X26_read_99 ω d G a wl k x12 g Θ1 Q := sorry
theorem endF_ne {us : List Wo} {ct : List Int} {sg : Int} (z : endF us ct sg ≠ []) : ¬ us.length = 0 := sorry
/-- what an end costs -/
def enC (us : List Wo) (ct : List Int) (sg c2 : Int) (ps : List Int) : Int := if us.length = 0 then 0 else 15 * wsum us + 118 + (if endF us ct sg = [] then 0 else adC c2 (len ps) - c2)
theorem RDX.endG {rs ps ct : List Int} {us : List Wo} {done : List Mb} {cm ia ig c ec c2 ep sg : Int} (X : RDX ω Θ Θ1 a p q wrs ws T k g rs ps us ct done cm ia ig c ec c2 ep) : 0 ≤ enC us ct sg c2 ps ∧ (us.length ≠ 0 → 15 * wsum us + 118 ≤ enC us ct sg c2 ps) ∧ (endF us ct sg ≠ [] → 15 * wsum us + 118 + (adC c2 (len ps) - c2) ≤ enC us ct sg c2 ps) ∧ enC us ct sg c2 ps ≤ 15 * wsum us + 118 * len rs + (if endF us ct sg = [] then 0 else adC c2 (len ps) - c2) ∧ c2 ≤ adC c2 (len ps) ∧ adC c2 (len ps) ≤ 2 * len wrs + 12 ∧ len rs = us.length := sorry
theorem rd_84 {rs ps ct : List Int} {us : List Wo} {done : List Mb} {cm ia ig c ec c2 ep x12 : Int} (hd : 15 ≤ d) (F : RDF ω Θ a p q wl wrs ws) (X : RDX ω Θ Θ1 a p q wrs ws T k g rs ps us ct done cm ia ig c ec c2 ep) (hk : k < len wrs) (hG : 15 * wsum ws + 122 * len wrs + 40 ≤ (G : Int)) (hc0 : CutO ω Θ1 x12 (wo ws k)) (hsw : (wo ws k).1 = 12 → 0 < len (wo ws k).2)
    (hy : ia = 0 ∧ (isG (wo ws k) 44 ∨ isG (wo ws k) 59 ∨ isG (wo ws k) 58)) (hkd : ¬ (wo ws k).1 = 13) (ih : ∀ Θ2 g2, RDI ω Θ Θ2 a p q wrs ws T (k + 1) g2 → W2_X26_read_2 ω d G a wl (k + 1) g2 Θ2 Q) : W2_X26_read_84 ω d G a wl k x12 g Θ1 Q := sorry
theorem u_X26_read {e1 e2 : Int} (hd : 15 ≤ d) (F : RDF ω Θ a p q wl wrs ws) (ha : xo Θ a = (39, [p, q, -1, 0, 0], 0, 0)) (hq : xo Θ q = (3, [], 0, e2)) (hp : xo Θ p = (3, [], 0, e1)) (hG : 15 * wsum ws + 122 * len wrs + 40 ≤ (G : Int))
    (hQ : ∀ Θ' rn c3 e3, GrX (exA a p q) Θ Θ' → (∃ x c ig, xo Θ' a = (39, [p, q, -1, 0, ig], 0, 0) ∧ xo Θ' q = (3, [], c, x)) → xo Θ' p = (3, rn, c3, e3) → all2 (MbO Θ') rn (adR ws [] [] 0) → Q Θ') : w2_X26_read ω d G a wl Θ Q := sorry
end RDX

/-! 64.ag.lean.txt -/
/-! words of a value: how many, of what; without comments -/
set_option maxRecDepth 100000
theorem pc1_mem {l : List Int} {k : Int} (h : 0 ≤ k) : ∀ x, x ∈ pc1 l k → x ∈ l := sorry
theorem upT_mem {l : List Int} {q : Int} : ∀ (N : Nat) (k : Int), (len l - k).toNat = N → 0 ≤ k → ∀ x, x ∈ upT l q k → x ∈ l := sorry
theorem cmT_mem {l : List Int} : ∀ (N : Nat) (k D : Int), (len l - k).toNat = N → 0 ≤ k → ∀ x, x ∈ cmT l k D → x ∈ l := sorry
/-- what holds of the words of a value -/
theorem cuA_ok {l : List Int} : ∀ (N : Nat) (k : Int), (len l - k).toNat = N → 0 ≤ k →
    (∀ w, w ∈ cuA l k → (w.1 = 12 → 0 < len w.2) ∧ (∀ x, x ∈ w.2 → x ∈ l) ∧ len w.2 ≤ len l) ∧ ((cuA l k).length : Int) ≤ max 0 (len l - k) ∧ wsum (cuA l k) ≤ 2 * max 0 (len l + 2 - k) := sorry
/-- words but comments -/
def woC (ws : List Wo) : List Wo := ws.filter (fun w => decide (w.1 ≠ 13))
section WCX
variable {ω : AO} {d G : Nat} {Θ Θ1 : Th} {a s x y c e : Int} {l : List Int}
theorem u_X27_init {Q : Th → Prop} (hd : 4 ≤ d) (h : xo Θ a = (40, [x, y, 0], 0, 0)) (hf : ¬ fz Θ a) (hs : Str Θ s l) (hG : 1 ≤ G) (hQ : ∀ Θ' w e, GrX (· = a) Θ Θ' → xo Θ' a = (40, [s, w, 0], 0, 0) → xo Θ' w = (3, [], 0, e) → ¬ fz Θ' w → kd Θ w = 0 → Q Θ') : w2_X27_init ω d G a s Θ Q := sorry
theorem u_X1_withoutComments {Q : Int → Th → Prop} (hd : 11 ≤ d) (hs : Str Θ s l) (hl : len l ≤ 90000) (hG : 38 * len l + 120 ≤ (G : Int))
    (hQ : ∀ r rs c e Θ', Gr Θ Θ' → Fx Θ' r (3, rs, c, e) → all2 (CutO ω Θ') rs (woC (cuA l 0)) → Q r Θ') : w2_X1_withoutComments ω d G s Θ Q := sorry
end WCX

/-! 65.ca.lean.txt -/
/-! UTF-7 -/
set_option maxRecDepth 100000
theorem letF_in (c : Int) : -1 ≤ letF c ∧ letF c < 64 := sorry
/-- a run of letters: what its units give, where it ends -/
def rnO (l : List Int) (k b n p : Int) : List Int :=
  if h : 0 ≤ k ∧ k < len l ∧ 0 ≤ letF (gt l k) then
    if n + 6 < 16 then rnO l (k + 1) (orI (b * 64) (letF (gt l k)) % 4194304) (n + 6) p
    else (ust p (shrI (orI (b * 64) (letF (gt l k)) % 4194304) (n + 6 + -16) % 65536)).1 ++ rnO l (k + 1) (orI (b * 64) (letF (gt l k)) % 4194304) (n + 6 + -16) (ust p (shrI (orI (b * 64) (letF (gt l k)) % 4194304) (n + 6 + -16) % 65536)).2
  else uend p
termination_by (len l - k).toNat
def rnK (l : List Int) (k : Int) : Int := if h : 0 ≤ k ∧ k < len l ∧ 0 ≤ letF (gt l k) then rnK l (k + 1) else k
termination_by (len l - k).toNat
def rnE (l : List Int) (k : Int) : Int := if atI l (rnK l k) = 45 then rnK l k + 1 else rnK l k
theorem rnK_in {l : List Int} : ∀ (N : Nat) (k : Int), (len l - k).toNat = N → 0 ≤ k → k ≤ len l → k ≤ rnK l k ∧ rnK l k ≤ len l := sorry
theorem rnE_in {l : List Int} {k : Int} (h : 0 ≤ k ∧ k ≤ len l) : k ≤ rnE l k ∧ rnE l k ≤ len l := sorry
theorem rnO_len {l : List Int} : ∀ (N : Nat) (k b n p : Int), (len l - k).toNat = N → (rnO l k b n p).length ≤ 2 * N + 1 := sorry
/-- a text in UTF-7 -/
def sv7 (l : List Int) (k : Int) : List Int :=
  if h : 0 ≤ k ∧ k < len l then
    if gt l k = 43 then (if atI l (k + 1) = 45 then 43 :: sv7 l (k + 2) else rnO l (k + 1) 0 0 0 ++ sv7 l (max (k + 1) (rnE l (k + 1)))) else (if gt l k ≤ 127 then gt l k else 65533) :: sv7 l (k + 1)
  else []
termination_by (len l - k).toNat
theorem atI_at {l : List Int} {k : Int} (h : 0 ≤ k ∧ k < len l) : atI l k = gt l k := if_pos h
theorem letF_at {l : List Int} {k : Int} (h : 0 ≤ letF (atI l k)) : 0 ≤ k ∧ k < len l := sorry
section SVX
variable {ω : AO} {d G : Nat} {Θ : Th} {l r c e k : Int} {m : List Int}
theorem u_X34_run {Q : Int → Th → Prop} (hd : 9 ≤ d) (h1 : kd Θ l = 19) (hne : l ≠ r) (hr : -1 ≤ r) (h2 : xo Θ r = (19, m, c, e)) (hf : ¬ fz Θ r) (hc : 2 ≤ c ∧ c ≤ 60000000) (hl : len (vv Θ l) ≤ 4000000) (hm : len m ≤ 10000000) (hk : 0 ≤ k ∧ k ≤ len (vv Θ l))
    (hG : 1 + (rwN c (len m) (rnO (vv Θ l) k 0 0 0).length - c) ≤ (G : Int)) (hQ : ∀ Θ', GrX (· = r) Θ Θ' → xo Θ' r = (19, m ++ rnO (vv Θ l) k 0 0 0, rwN c (len m) (rnO (vv Θ l) k 0 0 0).length, e) → ¬ fz Θ' r → Q (rnE (vv Θ l) k) Θ') : w2_X34_run ω d G l k r Θ Q := sorry
theorem u_X34_read {l0 : Int} {Q : Th → Prop} (hd : 10 ≤ d) (h1 : kd Θ l = 19) (hne : l ≠ r) (hr : -1 ≤ r) (h2 : xo Θ r = (19, m, c, e)) (hf : ¬ fz Θ r) (hc : 2 ≤ c ∧ c ≤ 20000000) (hb : byt (vv Θ l)) (hl : len (vv Θ l) ≤ 1000000) (hm : len m ≤ 1000000)
    (hG : len (vv Θ l) + (rwN c (len m) (sv7 (vv Θ l) 0).length - c) ≤ (G : Int)) (hS : (sv7 (vv Θ l) 0).length ≤ 5000000)
    (hQ : ∀ Θ', GrX (· = r) Θ Θ' → xo Θ' r = (19, m ++ sv7 (vv Θ l) 0, rwN c (len m) (sv7 (vv Θ l) 0).length, e) → ¬ fz Θ' r → Q Θ') : w2_X34_read ω d G l0 l r Θ Q := sorry
end SVX

/-! 65.da.lean.txt -/
/-! segments -/
set_option maxRecDepth 100000
def w2_X3_init (ω : AO) (d G : Nat) (l0 : Int) (Θ : Th) (Q : Th → Prop) : Prop := Hid (∀ S, bel S → R2 ω S Θ → Ctr ω yX3_init cX3_init 1 none d G [(2, l0)] S (eU S (q2U ω Θ Q)))
def w2_X3_named (ω : AO) (d G : Nat) (l0 : Int) (Θ : Th) (Q : Int → Th → Prop) : Prop := Hid (∀ S, bel S → R2 ω S Θ → Ctr ω yX3_named cX3_named 3 (some .int) d G [(2, l0)] S (eI S (q2 ω Θ Q)))
def w2_X3_at (ω : AO) (d G : Nat) (l0 l1 : Int) (Θ : Th) (Q : Int → Th → Prop) : Prop := Hid (∀ S, bel S → R2 ω S Θ → Ctr ω yX3_at cX3_at 2 (some (.object "MailWorks$Charset")) d G [(2, l0), (0, l1)] S (eA S (q2 ω Θ Q)))
def w2_X30_init (ω : AO) (d G : Nat) (l0 l1 l2 : Int) (Θ : Th) (Q : Th → Prop) : Prop := Hid (∀ S, bel S → R2 ω S Θ → Ctr ω yX30_init cX30_init 3 none d G [(2, l0), (2, l1), (2, l2)] S (eU S (q2U ω Θ Q)))
def w2_X30_name (ω : AO) (d G : Nat) (l0 l1 l2 : Int) (Θ : Th) (Q : Int → Th → Prop) : Prop := Hid (∀ S, bel S → R2 ω S Θ → Ctr ω yX30_name cX30_name 6 (some (.object "java/lang/String")) d G [(2, l0), (0, l1), (0, l2)] S (eA S (q2 ω Θ Q)))
def w2_X30_next (ω : AO) (d G : Nat) (l0 l1 l2 l3 : Int) (Θ : Th) (Q : Int → Th → Prop) : Prop := Hid (∀ S, bel S → R2 ω S Θ → Ctr ω yX30_next cX30_next 5 (some .int) d G [(2, l0), (0, l1), (0, l2), (0, l3)] S (eI S (q2 ω Θ Q)))
def w2_X30_setOf (ω : AO) (d G : Nat) (l0 l1 l2 : Int) (Θ : Th) (Q : Int → Th → Prop) : Prop := Hid (∀ S, bel S → R2 ω S Θ → Ctr ω yX30_setOf cX30_setOf 3 (some .int) d G [(2, l0), (0, l1), (0, l2)] S (eI S (q2 ω Θ Q)))
def w2_X30_wordEnd (ω : AO) (d G : Nat) (l0 l1 : Int) (Θ : Th) (Q : Int → Th → Prop) : Prop := Hid (∀ S, bel S → R2 ω S Θ → Ctr ω yX30_wordEnd cX30_wordEnd 5 (some .int) d G [(2, l0), (0, l1)] S (eI S (q2 ω Θ Q)))
def w2_X30_word (ω : AO) (d G : Nat) (l0 l1 l2 : Int) (Θ : Th) (Q : Th → Prop) : Prop := Hid (∀ S, bel S → R2 ω S Θ → Ctr ω yX30_word cX30_word 8 none d G [(2, l0), (0, l1), (0, l2)] S (eU S (q2U ω Θ Q)))
def w2_X30_isWhite (ω : AO) (d G : Nat) (l0 : Int) (Θ : Th) (Q : Int → Th → Prop) : Prop := Hid (∀ S, bel S → R2 ω S Θ → Ctr ω yX30_isWhite cX30_isWhite 3 (some .boolean) d G [(2, l0)] S (eZ S (q2 ω Θ Q)))
def w2_X30_read (ω : AO) (d G : Nat) (l0 : Int) (Θ : Th) (Q : Int → Th → Prop) : Prop := Hid (∀ S, bel S → R2 ω S Θ → Ctr ω yX30_read cX30_read 5 (some (.object "MailWorks$Ints")) d G [(2, l0)] S (eA S (q2 ω Θ Q)))
def w2_X2_coding (ω : AO) (d G : Nat) (l0 l1 : Int) (Θ : Th) (Q : Int → Th → Prop) : Prop := Hid (∀ S, bel S → R2 ω S Θ → Ctr ω yX2_coding cX2_coding 4 (some (.object "MailWorks$Coding")) d G [(2, l0), (2, l1)] S (eA S (q2 ω Θ Q)))
theorem lf_X3_11_17 : FLk RX3 11 17 0 (.array (.object "MailWorks$Charset")) true := sorry
theorem lm_X3_31 : VLk RX3 31 2 yJ2_hashCode cJ2_hashCode 2 (some .int) 0 := sorry
theorem lm_X3_39 : VLk RX3 39 2 yJ2_equals cJ2_equals 3 (some .boolean) 1 := sorry
theorem lr_X3_11_17 : FLkR RX3 11 17 0 (.array (.object "MailWorks$Charset")) := sorry
theorem lm_X3_30 : ILk RX3 30 yX35_init cX35_init 3 1 := sorry
theorem ln_X3_27 : NLk RX3 27 yX34_init cX34_init 1 none 0 := sorry
theorem ln_X3_19 : NLk RX3 19 yX32_init cX32_init 1 none 0 := sorry
theorem lm_X3_22 : ILk RX3 22 yX33_init cX33_init 2 1 := sorry
theorem ln_X30_11 : NLk RX30 11 yX5_init cX5_init 1 none 0 := sorry
theorem lf_X30_12_43 : FLk RX30 12 43 1 (.object "MailWorks$Ints") true := sorry
theorem lm_X30_18 : SLk RX30 18 yX12_ints cX12_ints 3 (some (.object "MailWorks$Ints")) 1 := sorry
theorem lf_X30_24_43 : FLk RX30 24 43 0 (.object "MailWorks$Ints") true := sorry
theorem lf_X30_27_43 : FLk RX30 27 43 2 (.object "MailWorks$Charsets") true := sorry
theorem lm_X30_33 : ILk RX30 33 yJ1_init cJ1_init 1 0 := sorry
theorem lm_X30_44 : VLk RX30 44 1 yJ1_toString cJ1_toString 1 (some (.object "java/lang/String")) 0 := sorry
theorem lr_X30_34_19 : FLkR RX30 34 19 0 (.array .int) := sorry
theorem lm_X30_40 : VLk RX30 40 1 yJ1_append cJ1_append 2 (some (.object "java/lang/StringBuilde\x72")) 1 := sorry
theorem lr_X30_24_43 : FLkR RX30 24 43 0 (.object "MailWorks$Ints") := sorry
theorem lr_X30_48_19 : FLkR RX30 48 19 1 .int := sorry
theorem lm_X30_56 : VLk RX30 56 43 yX30_next cX30_next 5 (some .int) 3 := sorry
theorem lm_X30_68 : SLk RX30 68 yJ4_min cJ4_min 2 (some .int) 2 := sorry
theorem lm_X30_73 : SLk RX30 73 yX30_name cX30_name 6 (some (.object "java/lang/String")) 3 := sorry
theorem lm_X30_77 : SLk RX30 77 yX3_named cX3_named 3 (some .int) 1 := sorry
theorem lm_X30_52 : VLk RX30 52 19 yX5_at cX5_at 2 (some .int) 1 := sorry
theorem lm_X30_60 : VLk RX30 60 43 yX30_setOf cX30_setOf 3 (some .int) 2 := sorry
theorem ln_X30_64 : NLk RX30 64 yX1_isBlank cX1_isBlank 1 (some .boolean) 1 := sorry
theorem ln_X30_89 : NLk RX30 89 yX38_init cX38_init 1 none 0 := sorry
theorem lm_X30_90 : VLk RX30 90 66 yX38_read cX38_read 7 none 2 := sorry
theorem lm_X30_83 : VLk RX30 83 19 yX5_add cX5_add 2 none 1 := sorry
theorem ln_X30_94 : NLk RX30 94 yX1_hexByte cX1_hexByte 2 (some .int) 2 := sorry
theorem lr_X30_27_43 : FLkR RX30 27 43 2 (.object "MailWorks$Charsets") := sorry
theorem lm_X30_98 : VLk RX30 98 17 yX3_at cX3_at 2 (some (.object "MailWorks$Charset")) 1 := sorry
theorem lr_X30_12_43 : FLkR RX30 12 43 1 (.object "MailWorks$Ints") := sorry
theorem lu_X30_101_44 : ULk RX30 101 44 ⟨"MailWorks$Charset", "read", "(LMailWorks$Ints;LMailWorks$Ints;)V"⟩ yX33_read cX33_read 8 none 2 := sorry
theorem lu_X30_101_45 : ULk RX30 101 45 ⟨"MailWorks$Charset", "read", "(LMailWorks$Ints;LMailWorks$Ints;)V"⟩ yX35_read cX35_read 4 none 2 := sorry
theorem lu_X30_101_67 : ULk RX30 101 67 ⟨"MailWorks$Charset", "read", "(LMailWorks$Ints;LMailWorks$Ints;)V"⟩ yX32_read cX32_read 8 none 2 := sorry
theorem lu_X30_101_69 : ULk RX30 101 69 ⟨"MailWorks$Charset", "read", "(LMailWorks$Ints;LMailWorks$Ints;)V"⟩ yX34_read cX34_read 5 none 2 := sorry
theorem lm_X30_104 : VLk RX30 104 43 yX30_wordEnd cX30_wordEnd 5 (some .int) 1 := sorry
theorem lm_X30_107 : SLk RX30 107 yX30_isWhite cX30_isWhite 3 (some .boolean) 1 := sorry
theorem lm_X30_111 : VLk RX30 111 19 yX5_clear cX5_clear 1 none 0 := sorry
theorem lm_X30_114 : VLk RX30 114 43 yX30_word cX30_word 8 none 2 := sorry
theorem lm_X2_99 : VLk RX2 99 2 yJ2_hashCode cJ2_hashCode 2 (some .int) 0 := sorry
theorem lm_X2_104 : VLk RX2 104 2 yJ2_equals cJ2_equals 3 (some .boolean) 1 := sorry
theorem ln_X2_114 : NLk RX2 114 yX38_init cX38_init 1 none 0 := sorry
theorem ln_X2_117 : NLk RX2 117 yX41_init cX41_init 1 none 0 := sorry
theorem ln_X2_120 : NLk RX2 120 yX42_init cX42_init 1 none 0 := sorry
set_option maxHeartbeats 4000000 in
theorem s2_X3_init {ω : AO} {d G : Nat} {l0 : Int} {Θ : Th} {Q : Th → Prop} (hB : (1 ≤ d) ∧ (0 ≤ l0) ∧ (0 + 4 ≤ G) ∧ ∀ (v7 : Int) (Θ7 : Th) (u7 : nt Θ ≤ v7 ∧ 0 ≤ v7) (b7 : Bl Θ) (t7 : Θ7 = nu Θ v7 (108, List.replicate ((10 : Int)).toNat (-1), 0, 0)), (kd Θ7 l0 = 17) ∧ (¬ fz Θ7 l0) ∧ ∀ (Θ10 : Th) (t10 : Θ10 = pf Θ7 l0 0 v7), Q Θ10) : w2_X3_init ω d G l0 Θ Q := sorry
def W2_X3_named_632 (ω : AO) (d G : Nat) (l2 : Int) (g : Nat) (Θ : Th) (Q : Int → Th → Prop) : Prop := Hid (SJ2 ω yX3_named cX3_named 3 (some .int) d G (fun Sz Θz => (eI Sz (q2 ω Θz Q))) 632 [vN, vN, (0, l2)] [] g Θ)
set_option maxHeartbeats 4000000 in
theorem s2_X3_named {ω : AO} {d G : Nat} {l0 : Int} {Θ : Th} {Q : Int → Th → Prop} (hB : (1 ≤ d) ∧ (kd Θ l0 = 2) ∧ ∃ G5 : Nat, (0 + G5 ≤ G) ∧ w2_J2_hashCode ω (d - 1) G5 l0 Θ (fun x5 Θ5 => ∀ (L5 : Le Θ Θ5) (r5 : -2147483648 ≤ x5 ∧ x5 < 2147483648), (∀ (c8 : x5 ≠ -2034918256 ∧ x5 ≠ -1884495006 ∧ x5 ≠ -1388934816 ∧ x5 ≠ -1355737493 ∧ x5 ≠ -1125953928 ∧ x5 ≠ -1109877331 ∧ x5 ≠ -1109877323 ∧ x5 ≠ -920118248 ∧ x5 ≠ -864975160 ∧ x5 ≠ -859186419 ∧ x5 ≠ -835144693 ∧ x5 ≠ -266231416 ∧ x5 ≠ -46458960 ∧ x5 ≠ 3397 ∧ x5 ≠ 3600240 ∧ x5 ≠ 3600241 ∧ x5 ≠ 93106001 ∧ x5 ≠ 94815911 ∧ x5 ≠ 94820563 ∧ x5 ≠ 102226303 ∧ x5 ≠ 111607185 ∧ x5 ≠ 111607186 ∧ x5 ≠ 111607308 ∧ x5 ≠ 584837518 ∧ x5 ≠ 584837828 ∧ x5 ≠ 1305323898 ∧ x5 ≠ 1342043557), W2_X3_named_632 ω d G ((-1)) (0 + G5) Θ5 Q) ∧ (∀ (c8 : x5 = -2034918256), ∀ (v307 : Int) (h307 : Str Θ5 v307 [105, 115, 111, 45, 56, 56, 53, 57, 45, 49]), (2 ≤ d) ∧ (0 + G5 ≤ G) ∧ ∀ (x309 : Int) (e309 : x309 = if vv Θ5 l0 = vv Θ5 v307 then 1 else 0) (r309 : x309 = 0 ∨ x309 = 1), (∀ (c312 : x309 = 0), W2_X3_named_632 ω d G ((-1)) (0 + G5) Θ5 Q) ∧ (∀ (c312 : ¬ x309 = 0), W2_X3_named_632 ω d G 5 (0 + G5) Θ5 Q)) ∧ (∀ (c8 : x5 = -1884495006), ∀ (v237 : Int) (h237 : Str Θ5 v237 [117, 115, 45, 97, 115, 99, 105, 105]), (2 ≤ d) ∧ (0 + G5 ≤ G) ∧ ∀ (x239 : Int) (e239 : x239 = if vv Θ5 l0 = vv Θ5 v237 then 1 else 0) (r239 : x239 = 0 ∨ x239 = 1), (∀ (c242 : x239 = 0), W2_X3_named_632 ω d G ((-1)) (0 + G5) Θ5 Q) ∧ (∀ (c242 : ¬ x239 = 0), W2_X3_named_632 ω d G 0 (0 + G5) Θ5 Q)) ∧ (∀ (c8 : x5 = -1388934816), ∀ (v471 : Int) (h471 : Str Θ5 v471 [120, 45, 99, 112, 49, 50, 53, 50]), (2 ≤ d) ∧ (0 + G5 ≤ G) ∧ ∀ (x473 : Int) (e473 : x473 = if vv Θ5 l0 = vv Θ5 v471 then 1 else 0) (r473 : x473 = 0 ∨ x473 = 1), (∀ (c476 : x473 = 0), W2_X3_named_632 ω d G ((-1)) (0 + G5) Θ5 Q) ∧ (∀ (c476 : ¬ x473 = 0), W2_X3_named_632 ω d G 16 (0 + G5) Θ5 Q)) ∧ (∀ (c8 : x5 = -1355737493), ∀ (v456 : Int) (h456 : Str Θ5 v456 [99, 112, 49, 50, 53, 50]), (2 ≤ d) ∧ (0 + G5 ≤ G) ∧ ∀ (x458 : Int) (e458 : x458 = if vv Θ5 l0 = vv Θ5 v456 then 1 else 0) (r458 : x458 = 0 ∨ x458 = 1), (∀ (c461 : x458 = 0), W2_X3_named_632 ω d G ((-1)) (0 + G5) Θ5 Q) ∧ (∀ (c461 : ¬ x458 = 0), W2_X3_named_632 ω d G 15 (0 + G5) Θ5 Q)) ∧ (∀ (c8 : x5 = -1125953928), ∀ (v576 : Int) (h576 : Str Θ5 v576 [107, 111, 105, 56, 45, 114]), (2 ≤ d) ∧ (0 + G5 ≤ G) ∧ ∀ (x578 : Int) (e578 : x578 = if vv Θ5 l0 = vv Θ5 v576 then 1 else 0) (r578 : x578 = 0 ∨ x578 = 1), (∀ (c581 : x578 = 0), W2_X3_named_632 ω d G ((-1)) (0 + G5) Θ5 Q) ∧ (∀ (c581 : ¬ x578 = 0), W2_X3_named_632 ω d G 23 (0 + G5) Θ5 Q)) ∧ (∀ (c8 : x5 = -1109877331), ∀ (v336 : Int) (h336 : Str Θ5 v336 [108, 97, 116, 105, 110, 49]), (2 ≤ d) ∧ (0 + G5 ≤ G) ∧ ∀ (x338 : Int) (e338 : x338 = if vv Θ5 l0 = vv Θ5 v336 then 1 else 0) (r338 : x338 = 0 ∨ x338 = 1), (∀ (c341 : x338 = 0), W2_X3_named_632 ω d G ((-1)) (0 + G5) Θ5 Q) ∧ (∀ (c341 : ¬ x338 = 0), W2_X3_named_632 ω d G 7 (0 + G5) Θ5 Q)) ∧ (∀ (c8 : x5 = -1109877323), ∀ (v411 : Int) (h411 : Str Θ5 v411 [108, 97, 116, 105, 110, 57]), (2 ≤ d) ∧ (0 + G5 ≤ G) ∧ ∀ (x413 : Int) (e413 : x413 = if vv Θ5 l0 = vv Θ5 v411 then 1 else 0) (r413 : x413 = 0 ∨ x413 = 1), (∀ (c416 : x413 = 0), W2_X3_named_632 ω d G ((-1)) (0 + G5) Θ5 Q) ∧ (∀ (c416 : ¬ x413 = 0), W2_X3_named_632 ω d G 12 (0 + G5) Θ5 Q)) ∧ (∀ (c8 : x5 = -920118248), ∀ (v265 : Int) (h265 : Str Θ5 v265 [105, 115, 111, 54, 52, 54, 45, 117, 115]), (2 ≤ d) ∧ (0 + G5 ≤ G) ∧ ∀ (x267 : Int) (e267 : x267 = if vv Θ5 l0 = vv Θ5 v265 then 1 else 0) (r267 : x267 = 0 ∨ x267 = 1), (∀ (c270 : x267 = 0), W2_X3_named_632 ω d G ((-1)) (0 + G5) Θ5 Q) ∧ (∀ (c270 : ¬ x267 = 0), W2_X3_named_632 ω d G 2 (0 + G5) Θ5 Q)) ∧ (∀ (c8 : x5 = -864975160), ∀ (v396 : Int) (h396 : Str Θ5 v396 [105, 115, 111, 56, 56, 53, 57, 45, 49, 53]), (2 ≤ d) ∧ (0 + G5 ≤ G) ∧ ∀ (x398 : Int) (e398 : x398 = if vv Θ5 l0 = vv Θ5 v396 then 1 else 0) (r398 : x398 = 0 ∨ x398 = 1), (∀ (c401 : x398 = 0), W2_X3_named_632 ω d G ((-1)) (0 + G5) Θ5 Q) ∧ (∀ (c401 : ¬ x398 = 0), W2_X3_named_632 ω d G 11 (0 + G5) Θ5 Q)) ∧ (∀ (c8 : x5 = -859186419), ∀ (v321 : Int) (h321 : Str Θ5 v321 [105, 115, 111, 56, 56, 53, 57, 45, 49]), (2 ≤ d) ∧ (0 + G5 ≤ G) ∧ ∀ (x323 : Int) (e323 : x323 = if vv Θ5 l0 = vv Θ5 v321 then 1 else 0) (r323 : x323 = 0 ∨ x323 = 1), (∀ (c326 : x323 = 0), W2_X3_named_632 ω d G ((-1)) (0 + G5) Θ5 Q) ∧ (∀ (c326 : ¬ x323 = 0), W2_X3_named_632 ω d G 6 (0 + G5) Θ5 Q)) ∧ (∀ (c8 : x5 = -835144693), ∀ (v516 : Int) (h516 : Str Θ5 v516 [117, 116, 102, 45, 49, 54]), (2 ≤ d) ∧ (0 + G5 ≤ G) ∧ ∀ (x518 : Int) (e518 : x518 = if vv Θ5 l0 = vv Θ5 v516 then 1 else 0) (r518 : x518 = 0 ∨ x518 = 1), (∀ (c521 : x518 = 0), W2_X3_named_632 ω d G ((-1)) (0 + G5) Θ5 Q) ∧ (∀ (c521 : ¬ x518 = 0), W2_X3_named_632 ω d G 19 (0 + G5) Θ5 Q)) ∧ (∀ (c8 : x5 = -266231416), ∀ (v441 : Int) (h441 : Str Θ5 v441 [119, 105, 110, 100, 111, 119, 115, 45, 49, 50, 53, 50]), (2 ≤ d) ∧ (0 + G5 ≤ G) ∧ ∀ (x443 : Int) (e443 : x443 = if vv Θ5 l0 = vv Θ5 v441 then 1 else 0) (r443 : x443 = 0 ∨ x443 = 1), (∀ (c446 : x443 = 0), W2_X3_named_632 ω d G ((-1)) (0 + G5) Θ5 Q) ∧ (∀ (c446 : ¬ x443 = 0), W2_X3_named_632 ω d G 14 (0 + G5) Θ5 Q)) ∧ (∀ (c8 : x5 = -46458960), ∀ (v426 : Int) (h426 : Str Θ5 v426 [108, 97, 116, 105, 110, 45, 57]), (2 ≤ d) ∧ (0 + G5 ≤ G) ∧ ∀ (x428 : Int) (e428 : x428 = if vv Θ5 l0 = vv Θ5 v426 then 1 else 0) (r428 : x428 = 0 ∨ x428 = 1), (∀ (c431 : x428 = 0), W2_X3_named_632 ω d G ((-1)) (0 + G5) Θ5 Q) ∧ (∀ (c431 : ¬ x428 = 0), W2_X3_named_632 ω d G 13 (0 + G5) Θ5 Q)) ∧ (∀ (c8 : x5 = 3397), ∀ (v351 : Int) (h351 : Str Θ5 v351 [108, 49]), (2 ≤ d) ∧ (0 + G5 ≤ G) ∧ ∀ (x353 : Int) (e353 : x353 = if vv Θ5 l0 = vv Θ5 v351 then 1 else 0) (r353 : x353 = 0 ∨ x353 = 1), (∀ (c356 : x353 = 0), W2_X3_named_632 ω d G ((-1)) (0 + G5) Θ5 Q) ∧ (∀ (c356 : ¬ x353 = 0), W2_X3_named_632 ω d G 8 (0 + G5) Θ5 Q)) ∧ (∀ (c8 : x5 = 3600240), ∀ (v621 : Int) (h621 : Str Θ5 v621 [117, 116, 102, 55]), (2 ≤ d) ∧ (0 + G5 ≤ G) ∧ ∀ (x623 : Int) (e623 : x623 = if vv Θ5 l0 = vv Θ5 v621 then 1 else 0) (r623 : x623 = 0 ∨ x623 = 1), (∀ (c626 : x623 = 0), W2_X3_named_632 ω d G ((-1)) (0 + G5) Θ5 Q) ∧ (∀ (c626 : ¬ x623 = 0), W2_X3_named_632 ω d G 26 (0 + G5) Θ5 Q)) ∧ (∀ (c8 : x5 = 3600241), ∀ (v501 : Int) (h501 : Str Θ5 v501 [117, 116, 102, 56]), (2 ≤ d) ∧ (0 + G5 ≤ G) ∧ ∀ (x503 : Int) (e503 : x503 = if vv Θ5 l0 = vv Θ5 v501 then 1 else 0) (r503 : x503 = 0 ∨ x503 = 1), (∀ (c506 : x503 = 0), W2_X3_named_632 ω d G ((-1)) (0 + G5) Θ5 Q) ∧ (∀ (c506 : ¬ x503 = 0), W2_X3_named_632 ω d G 18 (0 + G5) Θ5 Q)) ∧ (∀ (c8 : x5 = 93106001), ∀ (v251 : Int) (h251 : Str Θ5 v251 [97, 115, 99, 105, 105]), (2 ≤ d) ∧ (0 + G5 ≤ G) ∧ ∀ (x253 : Int) (e253 : x253 = if vv Θ5 l0 = vv Θ5 v251 then 1 else 0) (r253 : x253 = 0 ∨ x253 = 1), (∀ (c256 : x253 = 0), W2_X3_named_632 ω d G ((-1)) (0 + G5) Θ5 Q) ∧ (∀ (c256 : ¬ x253 = 0), W2_X3_named_632 ω d G 1 (0 + G5) Θ5 Q)) ∧ (∀ (c8 : x5 = 94815911), ∀ (v293 : Int) (h293 : Str Θ5 v293 [99, 112, 51, 54, 55]), (2 ≤ d) ∧ (0 + G5 ≤ G) ∧ ∀ (x295 : Int) (e295 : x295 = if vv Θ5 l0 = vv Θ5 v293 then 1 else 0) (r295 : x295 = 0 ∨ x295 = 1), (∀ (c298 : x295 = 0), W2_X3_named_632 ω d G ((-1)) (0 + G5) Θ5 Q) ∧ (∀ (c298 : ¬ x295 = 0), W2_X3_named_632 ω d G 4 (0 + G5) Θ5 Q)) ∧ (∀ (c8 : x5 = 94820563), ∀ (v366 : Int) (h366 : Str Θ5 v366 [99, 112, 56, 49, 57]), (2 ≤ d) ∧ (0 + G5 ≤ G) ∧ ∀ (x368 : Int) (e368 : x368 = if vv Θ5 l0 = vv Θ5 v366 then 1 else 0) (r368 : x368 = 0 ∨ x368 = 1), (∀ (c371 : x368 = 0), W2_X3_named_632 ω d G ((-1)) (0 + G5) Θ5 Q) ∧ (∀ (c371 : ¬ x368 = 0), W2_X3_named_632 ω d G 9 (0 + G5) Θ5 Q)) ∧ (∀ (c8 : x5 = 102226303), ∀ (v591 : Int) (h591 : Str Θ5 v591 [107, 111, 105, 56, 114]), (2 ≤ d) ∧ (0 + G5 ≤ G) ∧ ∀ (x593 : Int) (e593 : x593 = if vv Θ5 l0 = vv Θ5 v591 then 1 else 0) (r593 : x593 = 0 ∨ x593 = 1), (∀ (c596 : x593 = 0), W2_X3_named_632 ω d G ((-1)) (0 + G5) Θ5 Q) ∧ (∀ (c596 : ¬ x593 = 0), W2_X3_named_632 ω d G 24 (0 + G5) Θ5 Q)) ∧ (∀ (c8 : x5 = 111607185), ∀ (v606 : Int) (h606 : Str Θ5 v606 [117, 116, 102, 45, 55]), (2 ≤ d) ∧ (0 + G5 ≤ G) ∧ ∀ (x608 : Int) (e608 : x608 = if vv Θ5 l0 = vv Θ5 v606 then 1 else 0) (r608 : x608 = 0 ∨ x608 = 1), (∀ (c611 : x608 = 0), W2_X3_named_632 ω d G ((-1)) (0 + G5) Θ5 Q) ∧ (∀ (c611 : ¬ x608 = 0), W2_X3_named_632 ω d G 25 (0 + G5) Θ5 Q)) ∧ (∀ (c8 : x5 = 111607186), ∀ (v486 : Int) (h486 : Str Θ5 v486 [117, 116, 102, 45, 56]), (2 ≤ d) ∧ (0 + G5 ≤ G) ∧ ∀ (x488 : Int) (e488 : x488 = if vv Θ5 l0 = vv Θ5 v486 then 1 else 0) (r488 : x488 = 0 ∨ x488 = 1), (∀ (c491 : x488 = 0), W2_X3_named_632 ω d G ((-1)) (0 + G5) Θ5 Q) ∧ (∀ (c491 : ¬ x488 = 0), W2_X3_named_632 ω d G 17 (0 + G5) Θ5 Q)) ∧ (∀ (c8 : x5 = 111607308), ∀ (v531 : Int) (h531 : Str Θ5 v531 [117, 116, 102, 49, 54]), (2 ≤ d) ∧ (0 + G5 ≤ G) ∧ ∀ (x533 : Int) (e533 : x533 = if vv Θ5 l0 = vv Θ5 v531 then 1 else 0) (r533 : x533 = 0 ∨ x533 = 1), (∀ (c536 : x533 = 0), W2_X3_named_632 ω d G ((-1)) (0 + G5) Θ5 Q) ∧ (∀ (c536 : ¬ x533 = 0), W2_X3_named_632 ω d G 20 (0 + G5) Θ5 Q)) ∧ (∀ (c8 : x5 = 584837518), ∀ (v546 : Int) (h546 : Str Θ5 v546 [117, 116, 102, 45, 49, 54, 98, 101]), (2 ≤ d) ∧ (0 + G5 ≤ G) ∧ ∀ (x548 : Int) (e548 : x548 = if vv Θ5 l0 = vv Θ5 v546 then 1 else 0) (r548 : x548 = 0 ∨ x548 = 1), (∀ (c551 : x548 = 0), W2_X3_named_632 ω d G ((-1)) (0 + G5) Θ5 Q) ∧ (∀ (c551 : ¬ x548 = 0), W2_X3_named_632 ω d G 21 (0 + G5) Θ5 Q)) ∧ (∀ (c8 : x5 = 584837828), ∀ (v561 : Int) (h561 : Str Θ5 v561 [117, 116, 102, 45, 49, 54, 108, 101]), (2 ≤ d) ∧ (0 + G5 ≤ G) ∧ ∀ (x563 : Int) (e563 : x563 = if vv Θ5 l0 = vv Θ5 v561 then 1 else 0) (r563 : x563 = 0 ∨ x563 = 1), (∀ (c566 : x563 = 0), W2_X3_named_632 ω d G ((-1)) (0 + G5) Θ5 Q) ∧ (∀ (c566 : ¬ x563 = 0), W2_X3_named_632 ω d G 22 (0 + G5) Θ5 Q)) ∧ (∀ (c8 : x5 = 1305323898), ∀ (v279 : Int) (h279 : Str Θ5 v279 [97, 110, 115, 105, 95, 120, 51, 46, 52, 45, 49, 57, 54, 56]), (2 ≤ d) ∧ (0 + G5 ≤ G) ∧ ∀ (x281 : Int) (e281 : x281 = if vv Θ5 l0 = vv Θ5 v279 then 1 else 0) (r281 : x281 = 0 ∨ x281 = 1), (∀ (c284 : x281 = 0), W2_X3_named_632 ω d G ((-1)) (0 + G5) Θ5 Q) ∧ (∀ (c284 : ¬ x281 = 0), W2_X3_named_632 ω d G 3 (0 + G5) Θ5 Q)) ∧ (∀ (c8 : x5 = 1342043557), ∀ (v381 : Int) (h381 : Str Θ5 v381 [105, 115, 111, 45, 56, 56, 53, 57, 45, 49, 53]), (2 ≤ d) ∧ (0 + G5 ≤ G) ∧ ∀ (x383 : Int) (e383 : x383 = if vv Θ5 l0 = vv Θ5 v381 then 1 else 0) (r383 : x383 = 0 ∨ x383 = 1), (∀ (c386 : x383 = 0), W2_X3_named_632 ω d G ((-1)) (0 + G5) Θ5 Q) ∧ (∀ (c386 : ¬ x383 = 0), W2_X3_named_632 ω d G 10 (0 + G5) Θ5 Q)))) : w2_X3_named ω d G l0 Θ Q := sorry
set_option maxHeartbeats 4000000 in
theorem s2_X3_named_632 {ω : AO} {d G : Nat} {l2 : Int} {g : Nat} {Θ : Th} {Q : Int → Th → Prop} (hB : (-2147483648 ≤ l2 ∧ l2 < 2147483648) ∧ (∀ (c633 : l2 < 0 ∨ 26 < l2), (g ≤ G) ∧ Q (-1) Θ) ∧ (∀ (c633 : l2 = 0), (g ≤ G) ∧ Q 0 Θ) ∧ (∀ (c633 : l2 = 1), (g ≤ G) ∧ Q 0 Θ) ∧ (∀ (c633 : l2 = 2), (g ≤ G) ∧ Q 0 Θ) ∧ (∀ (c633 : l2 = 3), (g ≤ G) ∧ Q 0 Θ) ∧ (∀ (c633 : l2 = 4), (g ≤ G) ∧ Q 0 Θ) ∧ (∀ (c633 : l2 = 5), (g ≤ G) ∧ Q 1 Θ) ∧ (∀ (c633 : l2 = 6), (g ≤ G) ∧ Q 1 Θ) ∧ (∀ (c633 : l2 = 7), (g ≤ G) ∧ Q 1 Θ) ∧ (∀ (c633 : l2 = 8), (g ≤ G) ∧ Q 1 Θ) ∧ (∀ (c633 : l2 = 9), (g ≤ G) ∧ Q 1 Θ) ∧ (∀ (c633 : l2 = 10), (g ≤ G) ∧ Q 2 Θ) ∧ (∀ (c633 : l2 = 11), (g ≤ G) ∧ Q 2 Θ) ∧ (∀ (c633 : l2 = 12), (g ≤ G) ∧ Q 2 Θ) ∧ (∀ (c633 : l2 = 13), (g ≤ G) ∧ Q 2 Θ) ∧ (∀ (c633 : l2 = 14), (g ≤ G) ∧ Q 3 Θ) ∧ (∀ (c633 : l2 = 15), (g ≤ G) ∧ Q 3 Θ) ∧ (∀ (c633 : l2 = 16), (g ≤ G) ∧ Q 3 Θ) ∧ (∀ (c633 : l2 = 17), (g ≤ G) ∧ Q 4 Θ) ∧ (∀ (c633 : l2 = 18), (g ≤ G) ∧ Q 4 Θ) ∧ (∀ (c633 : l2 = 19), (g ≤ G) ∧ Q 5 Θ) ∧ (∀ (c633 : l2 = 20), (g ≤ G) ∧ Q 5 Θ) ∧ (∀ (c633 : l2 = 21), (g ≤ G) ∧ Q 6 Θ) ∧ (∀ (c633 : l2 = 22), (g ≤ G) ∧ Q 7 Θ) ∧ (∀ (c633 : l2 = 23), (g ≤ G) ∧ Q 8 Θ) ∧ (∀ (c633 : l2 = 24), (g ≤ G) ∧ Q 8 Θ) ∧ (∀ (c633 : l2 = 25), (g ≤ G) ∧ Q 9 Θ) ∧ (∀ (c633 : l2 = 26), (g ≤ G) ∧ Q 9 Θ)) : W2_X3_named_632 ω d G l2 g Θ Q := sorry
def W2_X3_at_82 (ω : AO) (d G : Nat) (l0 l1 : Int) (g : Nat) (Θ : Th) (Q : Int → Th → Prop) : Prop := Hid (SJ2 ω yX3_at cX3_at 2 (some (.object "MailWorks$Charset")) d G (fun Sz Θz => (eA Sz (q2 ω Θz Q))) 82 [(2, l0), (0, l1)] [] g Θ)
def W2_X3_at_46 (ω : AO) (d G : Nat) (l0 l1 s0 s1 : Int) (g : Nat) (Θ : Th) (Q : Int → Th → Prop) : Prop := Hid (SJ2 ω yX3_at cX3_at 2 (some (.object "MailWorks$Charset")) d G (fun Sz Θz => (eA Sz (q2 ω Θz Q))) 46 [(2, l0), (0, l1)] [(0, s0), (2, s1)] g Θ)
def W2_X3_at_81 (ω : AO) (d G : Nat) (l0 l1 s0 s1 s2 : Int) (g : Nat) (Θ : Th) (Q : Int → Th → Prop) : Prop := Hid (SJ2 ω yX3_at cX3_at 2 (some (.object "MailWorks$Charset")) d G (fun Sz Θz => (eA Sz (q2 ω Θz Q))) 81 [(2, l0), (0, l1)] [(2, s0), (0, s1), (2, s2)] g Θ)
set_option maxHeartbeats 4000000 in
theorem s2_X3_at {ω : AO} {d G : Nat} {l0 l1 : Int} {Θ : Th} {Q : Int → Th → Prop} (hB : (kd Θ l0 = 17) ∧ ∀ (v1 : Int) (e1 : v1 = gt (vv Θ l0) 0) (r1 : -1 ≤ v1), (kd Θ v1 = 108) ∧ (0 ≤ l1 ∧ l1 < len (vv Θ v1)) ∧ ∀ (v5 : Int) (e5 : v5 = gt (vv Θ v1) l1) (r5 : -1 ≤ v5), (∀ (c6 : 0 ≤ v5), W2_X3_at_82 ω d G l0 l1 (0) Θ Q) ∧ (∀ (c6 : v5 < 0), ∀ (v10 : Int) (e10 : v10 = gt (vv Θ l0) 0) (r10 : -1 ≤ v10), (-2147483648 ≤ l1 ∧ l1 < 2147483648) ∧ (∀ (c16 : ¬ l1 = 4), (∀ (c31 : l1 = 5), W2_X3_at_46 ω d G l0 l1 l1 v10 (0) Θ Q) ∧ (∀ (c31 : ¬ l1 = 5), (∀ (c37 : l1 = 6), W2_X3_at_46 ω d G l0 l1 l1 v10 (0) Θ Q) ∧ (∀ (c37 : ¬ l1 = 6), (∀ (c43 : ¬ l1 = 7), (∀ (c60 : ¬ l1 = 9), (0 + 1 ≤ G) ∧ ∀ (v73 : Int) (Θ73 : Th) (u73 : nt Θ ≤ v73 ∧ 0 ≤ v73) (b73 : Bl Θ) (t73 : Θ73 = nu Θ v73 (45, [-1], 0, 0)), (1 ≤ d) ∧ ∃ G78 : Nat, (0 + 1 + G78 ≤ G) ∧ w2_X35_init ω (d - 1) G78 v73 l1 Θ73 (fun Θ78 => ∀ (L78 : Le Θ73 Θ78), W2_X3_at_81 ω d G l0 l1 v73 l1 v10 (0 + 1 + G78) Θ78 Q)) ∧ (∀ (c60 : l1 = 9), (0 + 1 ≤ G) ∧ ∀ (v63 : Int) (Θ63 : Th) (u63 : nt Θ ≤ v63 ∧ 0 ≤ v63) (b63 : Bl Θ) (t63 : Θ63 = nu Θ v63 (69, [], 0, 0)), (1 ≤ d) ∧ ∃ G67 : Nat, (0 + 1 + G67 ≤ G) ∧ w2_X34_init ω (d - 1) G67 v63 Θ63 (fun Θ67 => ∀ (L67 : Le Θ63 Θ67), W2_X3_at_81 ω d G l0 l1 v63 l1 v10 (0 + 1 + G67) Θ67 Q))) ∧ (∀ (c43 : l1 = 7), W2_X3_at_46 ω d G l0 l1 l1 v10 (0) Θ Q)))) ∧ (∀ (c16 : l1 = 4), (0 + 1 ≤ G) ∧ ∀ (v19 : Int) (Θ19 : Th) (u19 : nt Θ ≤ v19 ∧ 0 ≤ v19) (b19 : Bl Θ) (t19 : Θ19 = nu Θ v19 (67, [], 0, 0)), (1 ≤ d) ∧ ∃ G23 : Nat, (0 + 1 + G23 ≤ G) ∧ w2_X32_init ω (d - 1) G23 v19 Θ19 (fun Θ23 => ∀ (L23 : Le Θ19 Θ23), W2_X3_at_81 ω d G l0 l1 v19 l1 v10 (0 + 1 + G23) Θ23 Q)))) : w2_X3_at ω d G l0 l1 Θ Q := sorry
set_option maxHeartbeats 4000000 in
theorem s2_X3_at_82 {ω : AO} {d G : Nat} {l0 l1 : Int} {g : Nat} {Θ : Th} {Q : Int → Th → Prop} (hB : (kd Θ l0 = 17) ∧ ∀ (v83 : Int) (e83 : v83 = gt (vv Θ l0) 0) (r83 : -1 ≤ v83), (kd Θ v83 = 108) ∧ (0 ≤ l1 ∧ l1 < len (vv Θ v83)) ∧ ∀ (v87 : Int) (e87 : v87 = gt (vv Θ v83) l1) (r87 : -1 ≤ v87), (g ≤ G) ∧ (-1 ≤ v87) ∧ Q v87 Θ) : W2_X3_at_82 ω d G l0 l1 g Θ Q := sorry
set_option maxHeartbeats 4000000 in
theorem s2_X3_at_46 {ω : AO} {d G : Nat} {l0 l1 s0 s1 : Int} {g : Nat} {Θ : Th} {Q : Int → Th → Prop} (hB : (g + 1 ≤ G) ∧ ∀ (v46 : Int) (Θ46 : Th) (u46 : nt Θ ≤ v46 ∧ 0 ≤ v46) (b46 : Bl Θ) (t46 : Θ46 = nu Θ v46 (44, [0], 0, 0)), (1 ≤ d) ∧ ∃ G51 : Nat, (g + 1 + G51 ≤ G) ∧ w2_X33_init ω (d - 1) G51 v46 l1 Θ46 (fun Θ51 => ∀ (L51 : Le Θ46 Θ51), W2_X3_at_81 ω d G l0 l1 v46 s0 s1 (g + 1 + G51) Θ51 Q)) : W2_X3_at_46 ω d G l0 l1 s0 s1 g Θ Q := sorry
set_option maxHeartbeats 4000000 in
theorem s2_X3_at_81 {ω : AO} {d G : Nat} {l0 l1 s0 s1 s2 : Int} {g : Nat} {Θ : Th} {Q : Int → Th → Prop} (hB : (kd Θ s2 = 108) ∧ (¬ fz Θ s2) ∧ (0 ≤ s1 ∧ s1 < len (vv Θ s2)) ∧ (s0 = -1 ∨ kd Θ s0 ∈ [44, 45, 67, 69]) ∧ ∀ (Θ81 : Th) (t81 : Θ81 = pf Θ s2 s1 s0), W2_X3_at_82 ω d G l0 l1 (g) Θ81 Q) : W2_X3_at_81 ω d G l0 l1 s0 s1 s2 g Θ Q := sorry
set_option maxHeartbeats 4000000 in
theorem s2_X30_init {ω : AO} {d G : Nat} {l0 l1 l2 : Int} {Θ : Th} {Q : Th → Prop} (hB : (1 ≤ d) ∧ (0 ≤ l0) ∧ (0 + 1 ≤ G) ∧ ∀ (v5 : Int) (Θ5 : Th) (u5 : nt Θ ≤ v5 ∧ 0 ≤ v5) (b5 : Bl Θ) (t5 : Θ5 = nu Θ v5 (219, [], 0, 0)), (2 ≤ d) ∧ (0 + 1 + 3 ≤ G) ∧ ∀ (Θ9 : Th) (t9 : Θ9 = uq Θ5 v5 (19, [], 8, 0)), (kd Θ9 l0 = 43) ∧ (¬ fz Θ9 l0) ∧ ∀ (Θ12 : Th) (t12 : Θ12 = pf Θ9 l0 1 v5), ∃ G17 : Nat, (0 + 1 + 3 + G17 ≤ G) ∧ w2_X12_ints ω (d - 1) G17 l1 Θ12 (fun x17 Θ17 => ∀ (L17 : Le Θ12 Θ17) (r17 : -1 ≤ x17), (¬ fz Θ17 l0) ∧ (-1 ≤ x17) ∧ ∀ (Θ20 : Th) (t20 : Θ20 = pf Θ17 l0 0 x17), (¬ fz Θ20 l0) ∧ (-1 ≤ l2) ∧ ∀ (Θ25 : Th) (t25 : Θ25 = pf Θ20 l0 2 l2), (0 + 1 + 3 + G17 ≤ G) ∧ Q Θ25)) : w2_X30_init ω d G l0 l1 l2 Θ Q := sorry
def W2_X30_name_11 (ω : AO) (d G : Nat) (l0 l2 l3 l4 : Int) (g : Nat) (Θ : Th) (Q : Int → Th → Prop) : Prop := Hid (SJ2 ω yX30_name cX30_name 6 (some (.object "java/lang/String")) d G (fun Sz Θz => (eA Sz (q2 ω Θz Q))) 11 [(2, l0), vN, (0, l2), (2, l3), (0, l4), vN] [] g Θ)
def W2_X30_name_66 (ω : AO) (d G : Nat) (l0 l2 l3 l4 l5 s0 : Int) (g : Nat) (Θ : Th) (Q : Int → Th → Prop) : Prop := Hid (SJ2 ω yX30_name cX30_name 6 (some (.object "java/lang/String")) d G (fun Sz Θz => (eA Sz (q2 ω Θz Q))) 66 [(2, l0), vN, (0, l2), (2, l3), (0, l4), (0, l5)] [(2, s0)] g Θ)
def W2_X30_name_68 (ω : AO) (d G : Nat) (l0 l2 l3 l4 s0 s1 : Int) (g : Nat) (Θ : Th) (Q : Int → Th → Prop) : Prop := Hid (SJ2 ω yX30_name cX30_name 6 (some (.object "java/lang/String")) d G (fun Sz Θz => (eA Sz (q2 ω Θz Q))) 68 [(2, l0), vN, (0, l2), (2, l3), (0, l4), vN] [(0, s0), (2, s1)] g Θ)
set_option maxHeartbeats 4000000 in
theorem s2_X30_name {ω : AO} {d G : Nat} {l0 l1 l2 : Int} {Θ : Th} {Q : Int → Th → Prop} (hB : (0 + 1 ≤ G) ∧ ∀ (v0 : Int) (Θ0 : Th) (u0 : nt Θ ≤ v0 ∧ 0 ≤ v0) (b0 : Bl Θ) (t0 : Θ0 = nu Θ v0 (201, [], 0, 0)), (1 ≤ d) ∧ (3 ≤ d) ∧ (0 + 1 + 5 ≤ G) ∧ ∀ (Θ4 : Th) (t4 : Θ4 = uq Θ0 v0 (1, [], 16, 0)), W2_X30_name_11 ω d G l0 l2 v0 l1 (0 + 1 + 5) Θ4 Q) : w2_X30_name ω d G l0 l1 l2 Θ Q := sorry
set_option maxHeartbeats 4000000 in
theorem s2_X30_name_11 {ω : AO} {d G : Nat} {l0 l2 l3 l4 : Int} {g : Nat} {Θ : Th} {Q : Int → Th → Prop} (hB : (-2147483648 ≤ l4 ∧ l4 < 2147483648) ∧ (-2147483648 ≤ l2 ∧ l2 < 2147483648) ∧ (∀ (c14 : l2 ≤ l4), (1 ≤ d) ∧ (kd Θ l3 = 1) ∧ (len (vv Θ l3) ≤ 15000000) ∧ (8 ≤ d) ∧ (g + (len (vv Θ l3) + 5).toNat ≤ G) ∧ ∀ (x80 : Int) (Θ80 : Th) (e80 : NewS Θ Θ80 x80 (vv Θ l3)) (n80 : nt Θ ≤ x80), Q x80 Θ80) ∧ (∀ (c14 : l4 < l2), (kd Θ l0 = 19) ∧ (0 ≤ l4 ∧ l4 < len (vv Θ l0)) ∧ ∀ (v23 : Int) (e23 : v23 = gt (vv Θ l0) l4) (r23 : -2147483648 ≤ v23 ∧ v23 < 2147483648), (∀ (c30 : v23 < 33), ∀ (v40 : Int) (h40 : Str Θ v40 []), (g ≤ G) ∧ (-1 ≤ v40) ∧ Q v40 Θ) ∧ (∀ (c30 : 33 ≤ v23), (∀ (c37 : v23 ≤ 126), (∀ (c48 : v23 < 65), W2_X30_name_66 ω d G l0 l2 l3 l4 v23 l3 (g) Θ Q) ∧ (∀ (c48 : 65 ≤ v23), (∀ (c55 : 90 < v23), W2_X30_name_66 ω d G l0 l2 l3 l4 v23 l3 (g) Θ Q) ∧ (∀ (c55 : v23 ≤ 90), W2_X30_name_68 ω d G l0 l2 l3 l4 ((v23 + 32)) l3 (g) Θ Q))) ∧ (∀ (c37 : 126 < v23), ∀ (v40 : Int) (h40 : Str Θ v40 []), (g ≤ G) ∧ (-1 ≤ v40) ∧ Q v40 Θ)))) : W2_X30_name_11 ω d G l0 l2 l3 l4 g Θ Q := sorry
set_option maxHeartbeats 4000000 in
theorem s2_X30_name_66 {ω : AO} {d G : Nat} {l0 l2 l3 l4 l5 s0 : Int} {g : Nat} {Θ : Th} {Q : Int → Th → Prop} (hB : W2_X30_name_68 ω d G l0 l2 l3 l4 l5 s0 (g) Θ Q) : W2_X30_name_66 ω d G l0 l2 l3 l4 l5 s0 g Θ Q := sorry
set_option maxHeartbeats 4000000 in
theorem s2_X30_name_68 {ω : AO} {d G : Nat} {l0 l2 l3 l4 s0 s1 : Int} {g : Nat} {Θ : Th} {Q : Int → Th → Prop} (hB : (1 ≤ d) ∧ (kd Θ s1 = 1) ∧ (¬ fz Θ s1) ∧ (bC (cp Θ s1) (len (vv Θ s1) + 1) ≤ 20000000) ∧ (9 ≤ d) ∧ (g + (bK (bC (cp Θ s1) (len (vv Θ s1) + 1)) (if (s0 % 65536) ≤ 255 then cx Θ s1 else 1) - bK (cp Θ s1) (cx Θ s1)).toNat ≤ G) ∧ ∀ (Θ69 : Th) (t69 : Θ69 = uq Θ s1 (1, vv Θ s1 ++ [(s0 % 65536)], bC (cp Θ s1) (len (vv Θ s1) + 1), if (s0 % 65536) ≤ 255 then cx Θ s1 else 1)), W2_X30_name_11 ω d G l0 l2 l3 ((l4 + 1)) (g + (bK (bC (cp Θ s1) (len (vv Θ s1) + 1)) (if (s0 % 65536) ≤ 255 then cx Θ s1 else 1) - bK (cp Θ s1) (cx Θ s1)).toNat) Θ69 Q) : W2_X30_name_68 ω d G l0 l2 l3 l4 s0 s1 g Θ Q := sorry
def W2_X30_next_3 (ω : AO) (d G : Nat) (l0 l2 l3 l4 : Int) (g : Nat) (Θ : Th) (Q : Int → Th → Prop) : Prop := Hid (SJ2 ω yX30_next cX30_next 5 (some .int) d G (fun Sz Θz => (eI Sz (q2 ω Θz Q))) 3 [(2, l0), vN, (0, l2), (0, l3), (0, l4)] [] g Θ)
set_option maxHeartbeats 4000000 in
theorem s2_X30_next {ω : AO} {d G : Nat} {l0 l1 l2 l3 : Int} {Θ : Th} {Q : Int → Th → Prop} (hB : W2_X30_next_3 ω d G l0 l2 l3 l1 (0) Θ Q) : w2_X30_next ω d G l0 l1 l2 l3 Θ Q := sorry
set_option maxHeartbeats 4000000 in
theorem s2_X30_next_3 {ω : AO} {d G : Nat} {l0 l2 l3 l4 : Int} {g : Nat} {Θ : Th} {Q : Int → Th → Prop} (hB : (kd Θ l0 = 43) ∧ ∀ (v6 : Int) (e6 : v6 = gt (vv Θ l0) 0) (r6 : -1 ≤ v6), (kd Θ v6 = 19) ∧ ∀ (v9 : Int) (e9 : v9 = len (vv Θ v6)) (r9 : -2147483648 ≤ v9 ∧ v9 < 2147483648), (-2147483648 ≤ l4 ∧ l4 < 2147483648) ∧ (∀ (c12 : v9 ≤ l4), (g ≤ G) ∧ Q l4 Θ) ∧ (∀ (c12 : l4 < v9), ∀ (v16 : Int) (e16 : v16 = gt (vv Θ l0) 0) (r16 : -1 ≤ v16), (kd Θ v16 = 19) ∧ (0 ≤ l4 ∧ l4 < len (vv Θ v16)) ∧ ∀ (v24 : Int) (e24 : v24 = gt (vv Θ v16) l4) (r24 : -2147483648 ≤ v24 ∧ v24 < 2147483648), (-2147483648 ≤ l2 ∧ l2 < 2147483648) ∧ (∀ (c26 : v24 = l2), (g ≤ G) ∧ Q l4 Θ) ∧ (∀ (c26 : ¬ v24 = l2), ∀ (v30 : Int) (e30 : v30 = gt (vv Θ l0) 0) (r30 : -1 ≤ v30), (kd Θ v30 = 19) ∧ (0 ≤ l4 ∧ l4 < len (vv Θ v30)) ∧ ∀ (v38 : Int) (e38 : v38 = gt (vv Θ v30) l4) (r38 : -2147483648 ≤ v38 ∧ v38 < 2147483648), (-2147483648 ≤ l3 ∧ l3 < 2147483648) ∧ (∀ (c40 : v38 = l3), (g ≤ G) ∧ Q l4 Θ) ∧ (∀ (c40 : ¬ v38 = l3), W2_X30_next_3 ω d G l0 l2 l3 ((l4 + 1)) (g) Θ Q)))) : W2_X30_next_3 ω d G l0 l2 l3 l4 g Θ Q := sorry
set_option maxHeartbeats 4000000 in
theorem s2_X30_setOf {ω : AO} {d G : Nat} {l0 l1 l2 : Int} {Θ : Th} {Q : Int → Th → Prop} (hB : (kd Θ l0 = 43) ∧ ∀ (v1 : Int) (e1 : v1 = gt (vv Θ l0) 0) (r1 : -1 ≤ v1), (1 ≤ d) ∧ ∃ G16 : Nat, (0 + G16 ≤ G) ∧ w2_X30_next ω (d - 1) G16 l0 (l1 + 2) 42 63 Θ (fun x16 Θ16 => ∀ (L16 : Le Θ Θ16) (r16 : -2147483648 ≤ x16 ∧ x16 < 2147483648), (-2147483648 ≤ l2 ∧ l2 < 2147483648) ∧ (0 + G16 ≤ G) ∧ ∀ (x19 : Int) (e19 : x19 = min l2 x16) (r19 : -2147483648 ≤ x19 ∧ x19 < 2147483648), ∃ G22 : Nat, (0 + G16 + G22 ≤ G) ∧ w2_X30_name ω (d - 1) G22 v1 (l1 + 2) x19 Θ16 (fun x22 Θ22 => ∀ (L22 : Le Θ16 Θ22) (r22 : -1 ≤ x22), ∃ G25 : Nat, (0 + G16 + G22 + G25 ≤ G) ∧ w2_X3_named ω (d - 1) G25 x22 Θ22 (fun x25 Θ25 => ∀ (L25 : Le Θ22 Θ25) (r25 : -2147483648 ≤ x25 ∧ x25 < 2147483648), (0 + G16 + G22 + G25 ≤ G) ∧ Q x25 Θ25)))) : w2_X30_setOf ω d G l0 l1 l2 Θ Q := sorry
def W2_X30_wordEnd_68 (ω : AO) (d G : Nat) (l0 l1 l2 : Int) (g : Nat) (Θ : Th) (Q : Int → Th → Prop) : Prop := Hid (SJ2 ω yX30_wordEnd cX30_wordEnd 5 (some .int) d G (fun Sz Θz => (eI Sz (q2 ω Θz Q))) 68 [(2, l0), (0, l1), (0, l2), vN, vN] [] g Θ)
def W2_X30_wordEnd_114 (ω : AO) (d G : Nat) (l0 l4 : Int) (g : Nat) (Θ : Th) (Q : Int → Th → Prop) : Prop := Hid (SJ2 ω yX30_wordEnd cX30_wordEnd 5 (some .int) d G (fun Sz Θz => (eI Sz (q2 ω Θz Q))) 114 [(2, l0), vN, vN, vN, (0, l4)] [] g Θ)
def W2_X30_wordEnd_163 (ω : AO) (d G : Nat) (l0 l4 : Int) (g : Nat) (Θ : Th) (Q : Int → Th → Prop) : Prop := Hid (SJ2 ω yX30_wordEnd cX30_wordEnd 5 (some .int) d G (fun Sz Θz => (eI Sz (q2 ω Θz Q))) 163 [(2, l0), vN, vN, vN, (0, l4)] [] g Θ)
set_option maxHeartbeats 4000000 in
theorem s2_X30_wordEnd {ω : AO} {d G : Nat} {l0 l1 : Int} {Θ : Th} {Q : Int → Th → Prop} (hB : (kd Θ l0 = 43) ∧ ∀ (v1 : Int) (e1 : v1 = gt (vv Θ l0) 0) (r1 : -1 ≤ v1), (1 ≤ d) ∧ (kd Θ v1 = 19) ∧ (-2147483648 ≤ l1 ∧ l1 < 2147483648) ∧ ∀ (x5 : Int) (e5 : x5 = atI (vv Θ v1) l1) (r5 : -2147483648 ≤ x5 ∧ x5 < 2147483648), (∀ (c10 : ¬ x5 = 61), Q (-1) Θ) ∧ (∀ (c10 : x5 = 61), ∀ (v14 : Int) (e14 : v14 = gt (vv Θ l0) 0) (r14 : -1 ≤ v14), (kd Θ v14 = 19) ∧ (-2147483648 ≤ (l1 + 1) ∧ (l1 + 1) < 2147483648) ∧ ∀ (x20 : Int) (e20 : x20 = atI (vv Θ v14) (l1 + 1)) (r20 : -2147483648 ≤ x20 ∧ x20 < 2147483648), (∀ (c25 : x20 = 63), ∃ G38 : Nat, (0 + G38 ≤ G) ∧ w2_X30_next ω (d - 1) G38 l0 (l1 + 2) 63 63 Θ (fun x38 Θ38 => ∀ (L38 : Le Θ Θ38) (r38 : -2147483648 ≤ x38 ∧ x38 < 2147483648), ∀ (v43 : Int) (e43 : v43 = gt (vv Θ38 l0) 0) (r43 : -1 ≤ v43), (kd Θ38 v43 = 19) ∧ (-2147483648 ≤ (x38 + 1) ∧ (x38 + 1) < 2147483648) ∧ (0 + G38 ≤ G) ∧ ∀ (x49 : Int) (e49 : x49 = atI (vv Θ38 v43) (x38 + 1)) (r49 : -2147483648 ≤ x49 ∧ x49 < 2147483648), (∀ (c59 : (orI x49 32) = 113), W2_X30_wordEnd_68 ω d G l0 l1 x38 (0 + G38) Θ38 Q) ∧ (∀ (c59 : ¬ (orI x49 32) = 113), (∀ (c65 : ¬ (orI x49 32) = 98), Q (-1) Θ38) ∧ (∀ (c65 : (orI x49 32) = 98), W2_X30_wordEnd_68 ω d G l0 l1 x38 (0 + G38) Θ38 Q)))) ∧ (∀ (c25 : ¬ x20 = 63), Q (-1) Θ))) : w2_X30_wordEnd ω d G l0 l1 Θ Q := sorry
set_option maxHeartbeats 4000000 in
theorem s2_X30_wordEnd_68 {ω : AO} {d G : Nat} {l0 l1 l2 : Int} {g : Nat} {Θ : Th} {Q : Int → Th → Prop} (hB : (kd Θ l0 = 43) ∧ ∀ (v69 : Int) (e69 : v69 = gt (vv Θ l0) 0) (r69 : -1 ≤ v69), (1 ≤ d) ∧ (kd Θ v69 = 19) ∧ (-2147483648 ≤ (l2 + 1) ∧ (l2 + 1) < 2147483648) ∧ (g ≤ G) ∧ ∀ (x75 : Int) (e75 : x75 = atI (vv Θ v69) (l2 + 1)) (r75 : -2147483648 ≤ x75 ∧ x75 < 2147483648), (∀ (c80 : x75 < 64), Q (-1) Θ) ∧ (∀ (c80 : 64 ≤ x75), ∀ (v84 : Int) (e84 : v84 = gt (vv Θ l0) 0) (r84 : -1 ≤ v84), (kd Θ v84 = 19) ∧ (-2147483648 ≤ (l2 + 2) ∧ (l2 + 2) < 2147483648) ∧ ∀ (x90 : Int) (e90 : x90 = atI (vv Θ v84) (l2 + 2)) (r90 : -2147483648 ≤ x90 ∧ x90 < 2147483648), (∀ (c95 : ¬ x90 = 63), Q (-1) Θ) ∧ (∀ (c95 : x90 = 63), ∃ G101 : Nat, (g + G101 ≤ G) ∧ w2_X30_setOf ω (d - 1) G101 l0 l1 l2 Θ (fun x101 Θ101 => ∀ (L101 : Le Θ Θ101) (r101 : -2147483648 ≤ x101 ∧ x101 < 2147483648), (∀ (c104 : 0 ≤ x101), W2_X30_wordEnd_114 ω d G l0 ((l2 + 3)) (g + G101) Θ101 Q) ∧ (∀ (c104 : x101 < 0), (g + G101 ≤ G) ∧ Q (-1) Θ101))))) : W2_X30_wordEnd_68 ω d G l0 l1 l2 g Θ Q := sorry
set_option maxHeartbeats 4000000 in
theorem s2_X30_wordEnd_114 {ω : AO} {d G : Nat} {l0 l4 : Int} {g : Nat} {Θ : Th} {Q : Int → Th → Prop} (hB : (kd Θ l0 = 43) ∧ ∀ (v117 : Int) (e117 : v117 = gt (vv Θ l0) 0) (r117 : -1 ≤ v117), (kd Θ v117 = 19) ∧ ∀ (v120 : Int) (e120 : v120 = len (vv Θ v117)) (r120 : -2147483648 ≤ v120 ∧ v120 < 2147483648), (-2147483648 ≤ l4 ∧ l4 < 2147483648) ∧ (∀ (c123 : v120 ≤ l4), W2_X30_wordEnd_163 ω d G l0 l4 (g) Θ Q) ∧ (∀ (c123 : l4 < v120), ∀ (v127 : Int) (e127 : v127 = gt (vv Θ l0) 0) (r127 : -1 ≤ v127), (kd Θ v127 = 19) ∧ (0 ≤ l4 ∧ l4 < len (vv Θ v127)) ∧ ∀ (v135 : Int) (e135 : v135 = gt (vv Θ v127) l4) (r135 : -2147483648 ≤ v135 ∧ v135 < 2147483648), (∀ (c138 : v135 = 63), W2_X30_wordEnd_163 ω d G l0 l4 (g) Θ Q) ∧ (∀ (c138 : ¬ v135 = 63), ∀ (v142 : Int) (e142 : v142 = gt (vv Θ l0) 0) (r142 : -1 ≤ v142), (kd Θ v142 = 19) ∧ (0 ≤ l4 ∧ l4 < len (vv Θ v142)) ∧ ∀ (v150 : Int) (e150 : v150 = gt (vv Θ v142) l4) (r150 : -2147483648 ≤ v150 ∧ v150 < 2147483648), (1 ≤ d) ∧ (g ≤ G) ∧ ∀ (x151 : Int) (e151 : x151 = if chBl v150 then 1 else 0) (r151 : x151 = 0 ∨ x151 = 1), (∀ (c154 : ¬ x151 = 0), W2_X30_wordEnd_163 ω d G l0 l4 (g) Θ Q) ∧ (∀ (c154 : x151 = 0), W2_X30_wordEnd_114 ω d G l0 ((l4 + 1)) (g) Θ Q)))) : W2_X30_wordEnd_114 ω d G l0 l4 g Θ Q := sorry
set_option maxHeartbeats 4000000 in
theorem s2_X30_wordEnd_163 {ω : AO} {d G : Nat} {l0 l4 : Int} {g : Nat} {Θ : Th} {Q : Int → Th → Prop} (hB : (kd Θ l0 = 43) ∧ ∀ (v164 : Int) (e164 : v164 = gt (vv Θ l0) 0) (r164 : -1 ≤ v164), (1 ≤ d) ∧ (kd Θ v164 = 19) ∧ (-2147483648 ≤ l4 ∧ l4 < 2147483648) ∧ (g ≤ G) ∧ ∀ (x169 : Int) (e169 : x169 = atI (vv Θ v164) l4) (r169 : -2147483648 ≤ x169 ∧ x169 < 2147483648), (∀ (c174 : ¬ x169 = 63), Q (-1) Θ) ∧ (∀ (c174 : x169 = 63), ∀ (v178 : Int) (e178 : v178 = gt (vv Θ l0) 0) (r178 : -1 ≤ v178), (kd Θ v178 = 19) ∧ (-2147483648 ≤ (l4 + 1) ∧ (l4 + 1) < 2147483648) ∧ ∀ (x185 : Int) (e185 : x185 = atI (vv Θ v178) (l4 + 1)) (r185 : -2147483648 ≤ x185 ∧ x185 < 2147483648), (∀ (c190 : ¬ x185 = 61), Q (-1) Θ) ∧ (∀ (c190 : x185 = 61), (-2147483648 ≤ (l4 + 2) ∧ (l4 + 2) < 2147483648) ∧ Q (l4 + 2) Θ))) : W2_X30_wordEnd_163 ω d G l0 l4 g Θ Q := sorry
def W2_X30_word_35 (ω : AO) (d G : Nat) (l0 l1 l2 l3 l4 l5 l6 : Int) (g : Nat) (Θ : Th) (Q : Th → Prop) : Prop := Hid (SJ2 ω yX30_word cX30_word 8 none d G (fun Sz Θz => (eU Sz (q2U ω Θz Q))) 35 [(2, l0), (0, l1), (0, l2), (0, l3), (2, l4), (2, l5), (0, l6), vN] [] g Θ)
def W2_X30_word_102 (ω : AO) (d G : Nat) (l0 l1 l3 l4 l5 l6 : Int) (g : Nat) (Θ : Th) (Q : Th → Prop) : Prop := Hid (SJ2 ω yX30_word cX30_word 8 none d G (fun Sz Θz => (eU Sz (q2U ω Θz Q))) 102 [(2, l0), (0, l1), vN, (0, l3), (2, l4), (2, l5), (0, l6), vN] [] g Θ)
def W2_X30_word_195 (ω : AO) (d G : Nat) (l0 l1 l3 l4 : Int) (g : Nat) (Θ : Th) (Q : Th → Prop) : Prop := Hid (SJ2 ω yX30_word cX30_word 8 none d G (fun Sz Θz => (eU Sz (q2U ω Θz Q))) 195 [(2, l0), (0, l1), vN, (0, l3), (2, l4), vN, vN, vN] [] g Θ)
def W2_X30_word_138 (ω : AO) (d G : Nat) (l0 l1 l3 l4 l5 l6 s0 : Int) (g : Nat) (Θ : Th) (Q : Th → Prop) : Prop := Hid (SJ2 ω yX30_word cX30_word 8 none d G (fun Sz Θz => (eU Sz (q2U ω Θz Q))) 138 [(2, l0), (0, l1), vN, (0, l3), (2, l4), (2, l5), (0, l6), vN] [(0, s0)] g Θ)
def W2_X30_word_178 (ω : AO) (d G : Nat) (l0 l1 l3 l4 l5 l6 l7 s0 s1 : Int) (g : Nat) (Θ : Th) (Q : Th → Prop) : Prop := Hid (SJ2 ω yX30_word cX30_word 8 none d G (fun Sz Θz => (eU Sz (q2U ω Θz Q))) 178 [(2, l0), (0, l1), vN, (0, l3), (2, l4), (2, l5), (0, l6), (0, l7)] [(0, s0), (2, s1)] g Θ)
set_option maxHeartbeats 4000000 in
theorem s2_X30_word {ω : AO} {d G : Nat} {l0 l1 l2 : Int} {Θ : Th} {Q : Th → Prop} (hB : (1 ≤ d) ∧ (kd Θ l0 = 43) ∧ ∃ G8 : Nat, (0 + G8 ≤ G) ∧ w2_X30_next ω (d - 1) G8 l0 (l1 + 2) 63 63 Θ (fun x8 Θ8 => ∀ (L8 : Le Θ Θ8) (r8 : -2147483648 ≤ x8 ∧ x8 < 2147483648), (0 + G8 + 1 ≤ G) ∧ ∀ (v12 : Int) (Θ12 : Th) (u12 : nt Θ8 ≤ v12 ∧ 0 ≤ v12) (b12 : Bl Θ8) (t12 : Θ12 = nu Θ8 v12 (219, [], 0, 0)), (2 ≤ d) ∧ (0 + G8 + 1 + 3 ≤ G) ∧ ∀ (Θ16 : Th) (t16 : Θ16 = uq Θ12 v12 (19, [], 8, 0)), (0 + G8 + 1 + 3 + 1 ≤ G) ∧ ∀ (v21 : Int) (Θ21 : Th) (u21 : nt Θ16 ≤ v21 ∧ 0 ≤ v21) (b21 : Bl Θ16) (t21 : Θ21 = nu Θ16 v21 (219, [], 0, 0)), (0 + G8 + 1 + 3 + 1 + 3 ≤ G) ∧ ∀ (Θ25 : Th) (t25 : Θ25 = uq Θ21 v21 (19, [], 8, 0)), W2_X30_word_35 ω d G l0 l1 l2 x8 v12 v21 ((x8 + 3)) (0 + G8 + 1 + 3 + 1 + 3) Θ25 Q)) : w2_X30_word ω d G l0 l1 l2 Θ Q := sorry
set_option maxHeartbeats 4000000 in
theorem s2_X30_word_35 {ω : AO} {d G : Nat} {l0 l1 l2 l3 l4 l5 l6 : Int} {g : Nat} {Θ : Th} {Q : Th → Prop} (hB : (-2147483648 ≤ l6 ∧ l6 < 2147483648) ∧ (-2147483648 ≤ (l2 - 2) ∧ (l2 - 2) < 2147483648) ∧ (∀ (c40 : (l2 - 2) ≤ l6), (kd Θ l0 = 43) ∧ ∀ (v65 : Int) (e65 : v65 = gt (vv Θ l0) 0) (r65 : -1 ≤ v65), (1 ≤ d) ∧ (kd Θ v65 = 19) ∧ (-2147483648 ≤ (l3 + 1) ∧ (l3 + 1) < 2147483648) ∧ (g ≤ G) ∧ ∀ (x71 : Int) (e71 : x71 = atI (vv Θ v65) (l3 + 1)) (r71 : -2147483648 ≤ x71 ∧ x71 < 2147483648), (∀ (c79 : ¬ (orI x71 32) = 98), W2_X30_word_102 ω d G l0 l1 l3 l4 l5 0 (g) Θ Q) ∧ (∀ (c79 : (orI x71 32) = 98), (g + 1 ≤ G) ∧ ∀ (v82 : Int) (Θ82 : Th) (u82 : nt Θ ≤ v82 ∧ 0 ≤ v82) (b82 : Bl Θ) (t82 : Θ82 = nu Θ v82 (66, [], 0, 0)), ∃ G86 : Nat, (g + 1 + G86 ≤ G) ∧ w2_X38_init ω (d - 1) G86 v82 Θ82 (fun Θ86 => ∀ (L86 : Le Θ82 Θ86), ∃ G93 : Nat, (g + 1 + G86 + G93 ≤ G) ∧ w2_X38_read ω (d - 1) G93 v82 l5 l4 Θ86 (fun Θ93 => ∀ (L93 : Le Θ86 Θ93), W2_X30_word_195 ω d G l0 l1 l3 l4 (g + 1 + G86 + G93) Θ93 Q)))) ∧ (∀ (c40 : l6 < (l2 - 2)), (kd Θ l0 = 43) ∧ ∀ (v46 : Int) (e46 : v46 = gt (vv Θ l0) 0) (r46 : -1 ≤ v46), (kd Θ v46 = 19) ∧ (0 ≤ l6 ∧ l6 < len (vv Θ v46)) ∧ ∀ (v54 : Int) (e54 : v54 = gt (vv Θ v46) l6) (r54 : -2147483648 ≤ v54 ∧ v54 < 2147483648), (1 ≤ d) ∧ (kd Θ l5 = 19) ∧ (¬ fz Θ l5) ∧ (rwC (cp Θ l5) (len (vv Θ l5)) ≤ 60000000) ∧ (3 ≤ d) ∧ (g + (rwK (cp Θ l5) (len (vv Θ l5))).toNat ≤ G) ∧ ∀ (Θ55 : Th) (t55 : Θ55 = uq Θ l5 (19, vv Θ l5 ++ [v54], rwC (cp Θ l5) (len (vv Θ l5)), cx Θ l5)), W2_X30_word_35 ω d G l0 l1 l2 l3 l4 l5 ((l6 + 1)) (g + (rwK (cp Θ l5) (len (vv Θ l5))).toNat) Θ55 Q)) : W2_X30_word_35 ω d G l0 l1 l2 l3 l4 l5 l6 g Θ Q := sorry
set_option maxHeartbeats 4000000 in
theorem s2_X30_word_102 {ω : AO} {d G : Nat} {l0 l1 l3 l4 l5 l6 : Int} {g : Nat} {Θ : Th} {Q : Th → Prop} (hB : (kd Θ l5 = 19) ∧ ∀ (v106 : Int) (e106 : v106 = len (vv Θ l5)) (r106 : -2147483648 ≤ v106 ∧ v106 < 2147483648), (-2147483648 ≤ l6 ∧ l6 < 2147483648) ∧ (∀ (c109 : v106 ≤ l6), W2_X30_word_195 ω d G l0 l1 l3 l4 (g) Θ Q) ∧ (∀ (c109 : l6 < v106), (0 ≤ l6 ∧ l6 < len (vv Θ l5)) ∧ ∀ (v119 : Int) (e119 : v119 = gt (vv Θ l5) l6) (r119 : -2147483648 ≤ v119 ∧ v119 < 2147483648), (∀ (c122 : ¬ v119 = 61), W2_X30_word_138 ω d G l0 l1 l3 l4 l5 l6 ((-1)) (g) Θ Q) ∧ (∀ (c122 : v119 = 61), (1 ≤ d) ∧ (-1000000 ≤ (l6 + 1) ∧ (l6 + 1) ≤ 1000000000) ∧ (3 ≤ d) ∧ (g ≤ G) ∧ ∀ (x131 : Int) (e131 : x131 = hbF (vv Θ l5) (l6 + 1)) (r131 : -2147483648 ≤ x131 ∧ x131 < 2147483648), W2_X30_word_138 ω d G l0 l1 l3 l4 l5 l6 x131 (g) Θ Q))) : W2_X30_word_102 ω d G l0 l1 l3 l4 l5 l6 g Θ Q := sorry
set_option maxHeartbeats 4000000 in
theorem s2_X30_word_195 {ω : AO} {d G : Nat} {l0 l1 l3 l4 : Int} {g : Nat} {Θ : Th} {Q : Th → Prop} (hB : (kd Θ l0 = 43) ∧ ∀ (v196 : Int) (e196 : v196 = gt (vv Θ l0) 2) (r196 : -1 ≤ v196), (1 ≤ d) ∧ ∃ G202 : Nat, (g + G202 ≤ G) ∧ w2_X30_setOf ω (d - 1) G202 l0 l1 l3 Θ (fun x202 Θ202 => ∀ (L202 : Le Θ Θ202) (r202 : -2147483648 ≤ x202 ∧ x202 < 2147483648), (kd Θ202 v196 = 17) ∧ ∃ G205 : Nat, (g + G202 + G205 ≤ G) ∧ w2_X3_at ω (d - 1) G205 v196 x202 Θ202 (fun x205 Θ205 => ∀ (L205 : Le Θ202 Θ205) (r205 : -1 ≤ x205), ∀ (v211 : Int) (e211 : v211 = gt (vv Θ205 l0) 1) (r211 : -1 ≤ v211), (((kd Θ205 x205 = 44) ∧ ∃ G214 : Nat, (g + G202 + G205 + G214 ≤ G) ∧ w2_X33_read ω (d - 1) G214 x205 l4 v211 Θ205 (fun Θ214 => ∀ (L214 : Le Θ205 Θ214), (g + G202 + G205 + G214 ≤ G) ∧ Q Θ214)) ∨ ((kd Θ205 x205 = 45) ∧ ∃ G214 : Nat, (g + G202 + G205 + G214 ≤ G) ∧ w2_X35_read ω (d - 1) G214 x205 l4 v211 Θ205 (fun Θ214 => ∀ (L214 : Le Θ205 Θ214), (g + G202 + G205 + G214 ≤ G) ∧ Q Θ214)) ∨ ((kd Θ205 x205 = 67) ∧ ∃ G214 : Nat, (g + G202 + G205 + G214 ≤ G) ∧ w2_X32_read ω (d - 1) G214 x205 l4 v211 Θ205 (fun Θ214 => ∀ (L214 : Le Θ205 Θ214), (g + G202 + G205 + G214 ≤ G) ∧ Q Θ214)) ∨ ((kd Θ205 x205 = 69) ∧ ∃ G214 : Nat, (g + G202 + G205 + G214 ≤ G) ∧ w2_X34_read ω (d - 1) G214 x205 l4 v211 Θ205 (fun Θ214 => ∀ (L214 : Le Θ205 Θ214), (g + G202 + G205 + G214 ≤ G) ∧ Q Θ214)))))) : W2_X30_word_195 ω d G l0 l1 l3 l4 g Θ Q := sorry
set_option maxHeartbeats 4000000 in
theorem s2_X30_word_138 {ω : AO} {d G : Nat} {l0 l1 l3 l4 l5 l6 s0 : Int} {g : Nat} {Θ : Th} {Q : Th → Prop} (hB : (-2147483648 ≤ s0 ∧ s0 < 2147483648) ∧ (∀ (c144 : s0 < 0), (kd Θ l5 = 19) ∧ (0 ≤ l6 ∧ l6 < len (vv Θ l5)) ∧ ∀ (v159 : Int) (e159 : v159 = gt (vv Θ l5) l6) (r159 : -2147483648 ≤ v159 ∧ v159 < 2147483648), (∀ (c162 : ¬ v159 = 95), ∀ (v177 : Int) (e177 : v177 = gt (vv Θ l5) l6) (r177 : -2147483648 ≤ v177 ∧ v177 < 2147483648), W2_X30_word_178 ω d G l0 l1 l3 l4 l5 l6 s0 v177 l4 (g) Θ Q) ∧ (∀ (c162 : v159 = 95), W2_X30_word_178 ω d G l0 l1 l3 l4 l5 l6 s0 32 l4 (g) Θ Q)) ∧ (∀ (c144 : 0 ≤ s0), W2_X30_word_178 ω d G l0 l1 l3 l4 l5 l6 s0 s0 l4 (g) Θ Q)) : W2_X30_word_138 ω d G l0 l1 l3 l4 l5 l6 s0 g Θ Q := sorry
set_option maxHeartbeats 4000000 in
theorem s2_X30_word_178 {ω : AO} {d G : Nat} {l0 l1 l3 l4 l5 l6 l7 s0 s1 : Int} {g : Nat} {Θ : Th} {Q : Th → Prop} (hB : (1 ≤ d) ∧ (kd Θ s1 = 19) ∧ (¬ fz Θ s1) ∧ (rwC (cp Θ s1) (len (vv Θ s1)) ≤ 60000000) ∧ (-2147483648 ≤ s0 ∧ s0 < 2147483648) ∧ (3 ≤ d) ∧ (g + (rwK (cp Θ s1) (len (vv Θ s1))).toNat ≤ G) ∧ ∀ (Θ178 : Th) (t178 : Θ178 = uq Θ s1 (19, vv Θ s1 ++ [s0], rwC (cp Θ s1) (len (vv Θ s1)), cx Θ s1)), (-2147483648 ≤ l7 ∧ l7 < 2147483648) ∧ (∀ (c183 : l7 < 0), W2_X30_word_102 ω d G l0 l1 l3 l4 l5 ((l6 + 1)) (g + (rwK (cp Θ s1) (len (vv Θ s1))).toNat) Θ178 Q) ∧ (∀ (c183 : 0 ≤ l7), W2_X30_word_102 ω d G l0 l1 l3 l4 l5 (((l6 + 2) + 1)) (g + (rwK (cp Θ s1) (len (vv Θ s1))).toNat) Θ178 Q)) : W2_X30_word_178 ω d G l0 l1 l3 l4 l5 l6 l7 s0 s1 g Θ Q := sorry
def W2_X30_isWhite_4 (ω : AO) (d G : Nat) (l0 l1 l2 : Int) (g : Nat) (Θ : Th) (Q : Int → Th → Prop) : Prop := Hid (SJ2 ω yX30_isWhite cX30_isWhite 3 (some .boolean) d G (fun Sz Θz => (eZ Sz (q2 ω Θz Q))) 4 [(2, l0), (0, l1), (0, l2)] [] g Θ)
def W2_X30_isWhite_54 (ω : AO) (d G : Nat) (l0 l2 : Int) (g : Nat) (Θ : Th) (Q : Int → Th → Prop) : Prop := Hid (SJ2 ω yX30_isWhite cX30_isWhite 3 (some .boolean) d G (fun Sz Θz => (eZ Sz (q2 ω Θz Q))) 54 [(2, l0), vN, (0, l2)] [] g Θ)
def W2_X30_isWhite_50 (ω : AO) (d G : Nat) (l0 l2 : Int) (g : Nat) (Θ : Th) (Q : Int → Th → Prop) : Prop := Hid (SJ2 ω yX30_isWhite cX30_isWhite 3 (some .boolean) d G (fun Sz Θz => (eZ Sz (q2 ω Θz Q))) 50 [(2, l0), vN, (0, l2)] [] g Θ)
set_option maxHeartbeats 4000000 in
theorem s2_X30_isWhite {ω : AO} {d G : Nat} {l0 : Int} {Θ : Th} {Q : Int → Th → Prop} (hB : W2_X30_isWhite_4 ω d G l0 1 0 (0) Θ Q) : w2_X30_isWhite ω d G l0 Θ Q := sorry
set_option maxHeartbeats 4000000 in
theorem s2_X30_isWhite_4 {ω : AO} {d G : Nat} {l0 l1 l2 : Int} {g : Nat} {Θ : Th} {Q : Int → Th → Prop} (hB : (kd Θ l0 = 19) ∧ ∀ (v6 : Int) (e6 : v6 = len (vv Θ l0)) (r6 : -2147483648 ≤ v6 ∧ v6 < 2147483648), (-2147483648 ≤ l2 ∧ l2 < 2147483648) ∧ (∀ (c9 : v6 ≤ l2), (g ≤ G) ∧ (l1 = 0 ∨ l1 = 1) ∧ Q l1 Θ) ∧ (∀ (c9 : l2 < v6), (-2147483648 ≤ l1 ∧ l1 < 2147483648) ∧ (∀ (c13 : l1 = 0), W2_X30_isWhite_54 ω d G l0 l2 (g) Θ Q) ∧ (∀ (c13 : ¬ l1 = 0), (0 ≤ l2 ∧ l2 < len (vv Θ l0)) ∧ ∀ (v21 : Int) (e21 : v21 = gt (vv Θ l0) l2) (r21 : -2147483648 ≤ v21 ∧ v21 < 2147483648), (1 ≤ d) ∧ (g ≤ G) ∧ ∀ (x22 : Int) (e22 : x22 = if chBl v21 then 1 else 0) (r22 : x22 = 0 ∨ x22 = 1), (∀ (c25 : ¬ x22 = 0), W2_X30_isWhite_50 ω d G l0 l2 (g) Θ Q) ∧ (∀ (c25 : x22 = 0), ∀ (v33 : Int) (e33 : v33 = gt (vv Θ l0) l2) (r33 : -2147483648 ≤ v33 ∧ v33 < 2147483648), (∀ (c36 : v33 = 13), W2_X30_isWhite_50 ω d G l0 l2 (g) Θ Q) ∧ (∀ (c36 : ¬ v33 = 13), ∀ (v44 : Int) (e44 : v44 = gt (vv Θ l0) l2) (r44 : -2147483648 ≤ v44 ∧ v44 < 2147483648), (∀ (c47 : ¬ v44 = 10), W2_X30_isWhite_54 ω d G l0 l2 (g) Θ Q) ∧ (∀ (c47 : v44 = 10), W2_X30_isWhite_50 ω d G l0 l2 (g) Θ Q)))))) : W2_X30_isWhite_4 ω d G l0 l1 l2 g Θ Q := sorry
set_option maxHeartbeats 4000000 in
theorem s2_X30_isWhite_54 {ω : AO} {d G : Nat} {l0 l2 : Int} {g : Nat} {Θ : Th} {Q : Int → Th → Prop} (hB : W2_X30_isWhite_4 ω d G l0 0 ((l2 + 1)) (g) Θ Q) : W2_X30_isWhite_54 ω d G l0 l2 g Θ Q := sorry
set_option maxHeartbeats 4000000 in
theorem s2_X30_isWhite_50 {ω : AO} {d G : Nat} {l0 l2 : Int} {g : Nat} {Θ : Th} {Q : Int → Th → Prop} (hB : W2_X30_isWhite_4 ω d G l0 1 ((l2 + 1)) (g) Θ Q) : W2_X30_isWhite_50 ω d G l0 l2 g Θ Q := sorry
def W2_X30_read_12 (ω : AO) (d G : Nat) (l0 l1 l2 l3 : Int) (g : Nat) (Θ : Th) (Q : Int → Th → Prop) : Prop := Hid (SJ2 ω yX30_read cX30_read 5 (some (.object "MailWorks$Ints")) d G (fun Sz Θz => (eA Sz (q2 ω Θz Q))) 12 [(2, l0), (2, l1), (0, l2), (0, l3), vN] [] g Θ)
def W2_X30_read_65 (ω : AO) (d G : Nat) (l0 l1 l3 l4 : Int) (g : Nat) (Θ : Th) (Q : Int → Th → Prop) : Prop := Hid (SJ2 ω yX30_read cX30_read 5 (some (.object "MailWorks$Ints")) d G (fun Sz Θz => (eA Sz (q2 ω Θz Q))) 65 [(2, l0), (2, l1), vN, (0, l3), (0, l4)] [] g Θ)
def W2_X30_read_81 (ω : AO) (d G : Nat) (l0 l1 l3 l4 : Int) (g : Nat) (Θ : Th) (Q : Int → Th → Prop) : Prop := Hid (SJ2 ω yX30_read cX30_read 5 (some (.object "MailWorks$Ints")) d G (fun Sz Θz => (eA Sz (q2 ω Θz Q))) 81 [(2, l0), (2, l1), vN, (0, l3), (0, l4)] [] g Θ)
set_option maxHeartbeats 4000000 in
theorem s2_X30_read {ω : AO} {d G : Nat} {l0 : Int} {Θ : Th} {Q : Int → Th → Prop} (hB : (0 + 1 ≤ G) ∧ ∀ (v0 : Int) (Θ0 : Th) (u0 : nt Θ ≤ v0 ∧ 0 ≤ v0) (b0 : Bl Θ) (t0 : Θ0 = nu Θ v0 (219, [], 0, 0)), (1 ≤ d) ∧ (2 ≤ d) ∧ (0 + 1 + 3 ≤ G) ∧ ∀ (Θ4 : Th) (t4 : Θ4 = uq Θ0 v0 (19, [], 8, 0)), W2_X30_read_12 ω d G l0 v0 0 0 (0 + 1 + 3) Θ4 Q) : w2_X30_read ω d G l0 Θ Q := sorry
set_option maxHeartbeats 4000000 in
theorem s2_X30_read_12 {ω : AO} {d G : Nat} {l0 l1 l2 l3 : Int} {g : Nat} {Θ : Th} {Q : Int → Th → Prop} (hB : (kd Θ l0 = 43) ∧ ∀ (v14 : Int) (e14 : v14 = gt (vv Θ l0) 0) (r14 : -1 ≤ v14), (kd Θ v14 = 19) ∧ ∀ (v17 : Int) (e17 : v17 = len (vv Θ v14)) (r17 : -2147483648 ≤ v17 ∧ v17 < 2147483648), (-2147483648 ≤ l3 ∧ l3 < 2147483648) ∧ (∀ (c20 : v17 ≤ l3), ∀ (v101 : Int) (e101 : v101 = gt (vv Θ l0) 2) (r101 : -1 ≤ v101), (1 ≤ d) ∧ (kd Θ v101 = 17) ∧ ∃ G105 : Nat, (g + G105 ≤ G) ∧ w2_X3_at ω (d - 1) G105 v101 4 Θ (fun x105 Θ105 => ∀ (L105 : Le Θ Θ105) (r105 : -1 ≤ x105), ∀ (v110 : Int) (e110 : v110 = gt (vv Θ105 l0) 1) (r110 : -1 ≤ v110), (((kd Θ105 x105 = 44) ∧ ∃ G113 : Nat, (g + G105 + G113 ≤ G) ∧ w2_X33_read ω (d - 1) G113 x105 l1 v110 Θ105 (fun Θ113 => ∀ (L113 : Le Θ105 Θ113), ∀ (v117 : Int) (e117 : v117 = gt (vv Θ113 l0) 1) (r117 : -1 ≤ v117), (g + G105 + G113 ≤ G) ∧ Q v117 Θ113)) ∨ ((kd Θ105 x105 = 45) ∧ ∃ G113 : Nat, (g + G105 + G113 ≤ G) ∧ w2_X35_read ω (d - 1) G113 x105 l1 v110 Θ105 (fun Θ113 => ∀ (L113 : Le Θ105 Θ113), ∀ (v117 : Int) (e117 : v117 = gt (vv Θ113 l0) 1) (r117 : -1 ≤ v117), (g + G105 + G113 ≤ G) ∧ Q v117 Θ113)) ∨ ((kd Θ105 x105 = 67) ∧ ∃ G113 : Nat, (g + G105 + G113 ≤ G) ∧ w2_X32_read ω (d - 1) G113 x105 l1 v110 Θ105 (fun Θ113 => ∀ (L113 : Le Θ105 Θ113), ∀ (v117 : Int) (e117 : v117 = gt (vv Θ113 l0) 1) (r117 : -1 ≤ v117), (g + G105 + G113 ≤ G) ∧ Q v117 Θ113)) ∨ ((kd Θ105 x105 = 69) ∧ ∃ G113 : Nat, (g + G105 + G113 ≤ G) ∧ w2_X34_read ω (d - 1) G113 x105 l1 v110 Θ105 (fun Θ113 => ∀ (L113 : Le Θ105 Θ113), ∀ (v117 : Int) (e117 : v117 = gt (vv Θ113 l0) 1) (r117 : -1 ≤ v117), (g + G105 + G113 ≤ G) ∧ Q v117 Θ113))))) ∧ (∀ (c20 : l3 < v17), (1 ≤ d) ∧ ∃ G25 : Nat, (g + G25 ≤ G) ∧ w2_X30_wordEnd ω (d - 1) G25 l0 l3 Θ (fun x25 Θ25 => ∀ (L25 : Le Θ Θ25) (r25 : -2147483648 ≤ x25 ∧ x25 < 2147483648), (∀ (c32 : 0 ≤ x25), (-2147483648 ≤ l2 ∧ l2 < 2147483648) ∧ (∀ (c55 : l2 = 0), W2_X30_read_65 ω d G l0 l1 l3 x25 (g + G25) Θ25 Q) ∧ (∀ (c55 : ¬ l2 = 0), ∃ G59 : Nat, (g + G25 + G59 ≤ G) ∧ w2_X30_isWhite ω (d - 1) G59 l1 Θ25 (fun x59 Θ59 => ∀ (L59 : Le Θ25 Θ59) (r59 : x59 = 0 ∨ x59 = 1), (∀ (c62 : ¬ x59 = 0), W2_X30_read_81 ω d G l0 l1 l3 x25 (g + G25 + G59) Θ59 Q) ∧ (∀ (c62 : x59 = 0), W2_X30_read_65 ω d G l0 l1 l3 x25 (g + G25 + G59) Θ59 Q)))) ∧ (∀ (c32 : x25 < 0), ∀ (v37 : Int) (e37 : v37 = gt (vv Θ25 l0) 0) (r37 : -1 ≤ v37), (kd Θ25 v37 = 19) ∧ (0 ≤ l3 ∧ l3 < len (vv Θ25 v37)) ∧ ∀ (v44 : Int) (e44 : v44 = gt (vv Θ25 v37) l3) (r44 : -2147483648 ≤ v44 ∧ v44 < 2147483648), (kd Θ25 l1 = 19) ∧ (¬ fz Θ25 l1) ∧ (rwC (cp Θ25 l1) (len (vv Θ25 l1)) ≤ 60000000) ∧ (3 ≤ d) ∧ (g + G25 + (rwK (cp Θ25 l1) (len (vv Θ25 l1))).toNat ≤ G) ∧ ∀ (Θ45 : Th) (t45 : Θ45 = uq Θ25 l1 (19, vv Θ25 l1 ++ [v44], rwC (cp Θ25 l1) (len (vv Θ25 l1)), cx Θ25 l1)), W2_X30_read_12 ω d G l0 l1 l2 ((l3 + 1)) (g + G25 + (rwK (cp Θ25 l1) (len (vv Θ25 l1))).toNat) Θ45 Q)))) : W2_X30_read_12 ω d G l0 l1 l2 l3 g Θ Q := sorry
set_option maxHeartbeats 4000000 in
theorem s2_X30_read_65 {ω : AO} {d G : Nat} {l0 l1 l3 l4 : Int} {g : Nat} {Θ : Th} {Q : Int → Th → Prop} (hB : (kd Θ l0 = 43) ∧ ∀ (v66 : Int) (e66 : v66 = gt (vv Θ l0) 2) (r66 : -1 ≤ v66), (1 ≤ d) ∧ (kd Θ v66 = 17) ∧ ∃ G70 : Nat, (g + G70 ≤ G) ∧ w2_X3_at ω (d - 1) G70 v66 4 Θ (fun x70 Θ70 => ∀ (L70 : Le Θ Θ70) (r70 : -1 ≤ x70), ∀ (v75 : Int) (e75 : v75 = gt (vv Θ70 l0) 1) (r75 : -1 ≤ v75), (((kd Θ70 x70 = 44) ∧ ∃ G78 : Nat, (g + G70 + G78 ≤ G) ∧ w2_X33_read ω (d - 1) G78 x70 l1 v75 Θ70 (fun Θ78 => ∀ (L78 : Le Θ70 Θ78), W2_X30_read_81 ω d G l0 l1 l3 l4 (g + G70 + G78) Θ78 Q)) ∨ ((kd Θ70 x70 = 45) ∧ ∃ G78 : Nat, (g + G70 + G78 ≤ G) ∧ w2_X35_read ω (d - 1) G78 x70 l1 v75 Θ70 (fun Θ78 => ∀ (L78 : Le Θ70 Θ78), W2_X30_read_81 ω d G l0 l1 l3 l4 (g + G70 + G78) Θ78 Q)) ∨ ((kd Θ70 x70 = 67) ∧ ∃ G78 : Nat, (g + G70 + G78 ≤ G) ∧ w2_X32_read ω (d - 1) G78 x70 l1 v75 Θ70 (fun Θ78 => ∀ (L78 : Le Θ70 Θ78), W2_X30_read_81 ω d G l0 l1 l3 l4 (g + G70 + G78) Θ78 Q)) ∨ ((kd Θ70 x70 = 69) ∧ ∃ G78 : Nat, (g + G70 + G78 ≤ G) ∧ w2_X34_read ω (d - 1) G78 x70 l1 v75 Θ70 (fun Θ78 => ∀ (L78 : Le Θ70 Θ78), W2_X30_read_81 ω d G l0 l1 l3 l4 (g + G70 + G78) Θ78 Q))))) : W2_X30_read_65 ω d G l0 l1 l3 l4 g Θ Q := sorry
set_option maxHeartbeats 4000000 in
theorem s2_X30_read_81 {ω : AO} {d G : Nat} {l0 l1 l3 l4 : Int} {g : Nat} {Θ : Th} {Q : Int → Th → Prop} (hB : (1 ≤ d) ∧ (kd Θ l1 = 19) ∧ (¬ fz Θ l1) ∧ (g ≤ G) ∧ ∀ (Θ82 : Th) (t82 : Θ82 = uq Θ l1 (19, [], cp Θ l1, cx Θ l1)), (kd Θ82 l0 = 43) ∧ ∃ G89 : Nat, (g + G89 ≤ G) ∧ w2_X30_word ω (d - 1) G89 l0 l3 l4 Θ82 (fun Θ89 => ∀ (L89 : Le Θ82 Θ89), W2_X30_read_12 ω d G l0 l1 1 l4 (g + G89) Θ89 Q)) : W2_X30_read_81 ω d G l0 l1 l3 l4 g Θ Q := sorry
def W2_X2_coding_83 (ω : AO) (d G : Nat) (l3 : Int) (g : Nat) (Θ : Th) (Q : Int → Th → Prop) : Prop := Hid (SJ2 ω yX2_coding cX2_coding 4 (some (.object "MailWorks$Coding")) d G (fun Sz Θz => (eA Sz (q2 ω Θz Q))) 83 [vN, vN, vN, (0, l3)] [] g Θ)
set_option maxHeartbeats 4000000 in
theorem s2_X2_coding {ω : AO} {d G : Nat} {l0 l1 : Int} {Θ : Th} {Q : Int → Th → Prop} (hB : (1 ≤ d) ∧ (kd Θ l1 = 2) ∧ ∃ G5 : Nat, (0 + G5 ≤ G) ∧ w2_J2_hashCode ω (d - 1) G5 l1 Θ (fun x5 Θ5 => ∀ (L5 : Le Θ Θ5) (r5 : -2147483648 ≤ x5 ∧ x5 < 2147483648), (∀ (c8 : x5 ≠ -1396204209 ∧ x5 ≠ -332571029 ∧ x5 ≠ 1567816546), W2_X2_coding_83 ω d G ((-1)) (0 + G5) Θ5 Q) ∧ (∀ (c8 : x5 = -1396204209), ∀ (v45 : Int) (h45 : Str Θ5 v45 [98, 97, 115, 101, 54, 52]), (2 ≤ d) ∧ (0 + G5 ≤ G) ∧ ∀ (x47 : Int) (e47 : x47 = if vv Θ5 l1 = vv Θ5 v45 then 1 else 0) (r47 : x47 = 0 ∨ x47 = 1), (∀ (c50 : x47 = 0), W2_X2_coding_83 ω d G ((-1)) (0 + G5) Θ5 Q) ∧ (∀ (c50 : ¬ x47 = 0), W2_X2_coding_83 ω d G 0 (0 + G5) Θ5 Q)) ∧ (∀ (c8 : x5 = -332571029), ∀ (v73 : Int) (h73 : Str Θ5 v73 [120, 45, 117, 117, 101, 110, 99, 111, 100, 101]), (2 ≤ d) ∧ (0 + G5 ≤ G) ∧ ∀ (x75 : Int) (e75 : x75 = if vv Θ5 l1 = vv Θ5 v73 then 1 else 0) (r75 : x75 = 0 ∨ x75 = 1), (∀ (c78 : x75 = 0), W2_X2_coding_83 ω d G ((-1)) (0 + G5) Θ5 Q) ∧ (∀ (c78 : ¬ x75 = 0), W2_X2_coding_83 ω d G 2 (0 + G5) Θ5 Q)) ∧ (∀ (c8 : x5 = 1567816546), ∀ (v59 : Int) (h59 : Str Θ5 v59 [113, 117, 111, 116, 101, 100, 45, 112, 114, 105, 110, 116, 97, 98, 108, 101]), (2 ≤ d) ∧ (0 + G5 ≤ G) ∧ ∀ (x61 : Int) (e61 : x61 = if vv Θ5 l1 = vv Θ5 v59 then 1 else 0) (r61 : x61 = 0 ∨ x61 = 1), (∀ (c64 : x61 = 0), W2_X2_coding_83 ω d G ((-1)) (0 + G5) Θ5 Q) ∧ (∀ (c64 : ¬ x61 = 0), W2_X2_coding_83 ω d G 1 (0 + G5) Θ5 Q)))) : w2_X2_coding ω d G l0 l1 Θ Q := sorry
set_option maxHeartbeats 4000000 in
theorem s2_X2_coding_83 {ω : AO} {d G : Nat} {l3 : Int} {g : Nat} {Θ : Th} {Q : Int → Th → Prop} (hB : (-2147483648 ≤ l3 ∧ l3 < 2147483648) ∧ (∀ (c84 : l3 < 0 ∨ 2 < l3), (g ≤ G) ∧ (-1 ≤ (-1)) ∧ Q (-1) Θ) ∧ (∀ (c84 : l3 = 0), (g + 1 ≤ G) ∧ ∀ (v112 : Int) (Θ112 : Th) (u112 : nt Θ ≤ v112 ∧ 0 ≤ v112) (b112 : Bl Θ) (t112 : Θ112 = nu Θ v112 (66, [], 0, 0)), (1 ≤ d) ∧ ∃ G116 : Nat, (g + 1 + G116 ≤ G) ∧ w2_X38_init ω (d - 1) G116 v112 Θ112 (fun Θ116 => ∀ (L116 : Le Θ112 Θ116), (g + 1 + G116 ≤ G) ∧ Q v112 Θ116)) ∧ (∀ (c84 : l3 = 1), (g + 1 ≤ G) ∧ ∀ (v120 : Int) (Θ120 : Th) (u120 : nt Θ ≤ v120 ∧ 0 ≤ v120) (b120 : Bl Θ) (t120 : Θ120 = nu Θ v120 (68, [], 0, 0)), (1 ≤ d) ∧ ∃ G124 : Nat, (g + 1 + G124 ≤ G) ∧ w2_X41_init ω (d - 1) G124 v120 Θ120 (fun Θ124 => ∀ (L124 : Le Θ120 Θ124), (g + 1 + G124 ≤ G) ∧ Q v120 Θ124)) ∧ (∀ (c84 : l3 = 2), (g + 1 ≤ G) ∧ ∀ (v128 : Int) (Θ128 : Th) (u128 : nt Θ ≤ v128 ∧ 0 ≤ v128) (b128 : Bl Θ) (t128 : Θ128 = nu Θ v128 (48, [0], 0, 0)), (1 ≤ d) ∧ ∃ G132 : Nat, (g + 1 + G132 ≤ G) ∧ w2_X42_init ω (d - 1) G132 v128 Θ128 (fun Θ132 => ∀ (L132 : Le Θ128 Θ132), (g + 1 + G132 ≤ G) ∧ Q v128 Θ132))) : W2_X2_coding_83 ω d G l3 g Θ Q := sorry
/-! 65.db.lean.txt -/
/-! Strings that are chosen by their hash; names of charsets -/
set_option maxRecDepth 100000
/-- the number of a text in a table -/
def lkI : List (List Int × Int) → List Int → Int
  | [], _ => -1
  | p :: r, t => if t = p.1 then p.2 else lkI r t
theorem lkI_none {t : List Int} : ∀ {tb : List (List Int × Int)}, (∀ p, p ∈ tb → p.1 ≠ t) → lkI tb t = -1 := sorry
theorem sw_no {tb : List (List Int × Int)} {t L : List Int} {h : Int} (hh : hsh t = h) (ht : t ≠ L) (hd : (tb.all fun p => decide (p.1 = L ∨ hsh p.1 ≠ h)) = true) : lkI tb t = -1 := sorry
theorem sw_df {tb : List (List Int × Int)} {t : List Int} (h : ∀ p, p ∈ tb → hsh p.1 ≠ hsh t) : lkI tb t = -1 := lkI_none (fun p hp z => h p hp (by rw [z]))
theorem lkI_lt {n : Int} : ∀ {tb : List (List Int × Int)}, (tb.all fun p => decide (p.2 < n)) = true → -1 < n → ∀ t, lkI tb t < n := sorry
def tb_X3_named : List (List Int × Int) := [([117, 115, 45, 97, 115, 99, 105, 105], 0), ([97, 115, 99, 105, 105], 1), ([105, 115, 111, 54, 52, 54, 45, 117, 115], 2), ([97, 110, 115, 105, 95, 120, 51, 46, 52, 45, 49, 57, 54, 56], 3), ([99, 112, 51, 54, 55], 4), ([105, 115, 111, 45, 56, 56, 53, 57, 45, 49], 5), ([105, 115, 111, 56, 56, 53, 57, 45, 49], 6), ([108, 97, 116, 105, 110, 49], 7), ([108, 49], 8), ([99, 112, 56, 49, 57], 9), ([105, 115, 111, 45, 56, 56, 53, 57, 45, 49, 53], 10), ([105, 115, 111, 56, 56, 53, 57, 45, 49, 53], 11), ([108, 97, 116, 105, 110, 57], 12), ([108, 97, 116, 105, 110, 45, 57], 13), ([119, 105, 110, 100, 111, 119, 115, 45, 49, 50, 53, 50], 14), ([99, 112, 49, 50, 53, 50], 15), ([120, 45, 99, 112, 49, 50, 53, 50], 16), ([117, 116, 102, 45, 56], 17), ([117, 116, 102, 56], 18), ([117, 116, 102, 45, 49, 54], 19), ([117, 116, 102, 49, 54], 20), ([117, 116, 102, 45, 49, 54, 98, 101], 21), ([117, 116, 102, 45, 49, 54, 108, 101], 22), ([107, 111, 105, 56, 45, 114], 23), ([107, 111, 105, 56, 114], 24), ([117, 116, 102, 45, 55], 25), ([117, 116, 102, 55], 26)]
def csF (t : List Int) : Int := if lkI tb_X3_named t < 0 then -1 else ([0, 0, 0, 0, 0, 1, 1, 1, 1, 1, 2, 2, 2, 2, 3, 3, 3, 4, 4, 5, 5, 6, 7, 8, 8, 9, 9] : List Int).getD (lkI tb_X3_named t).toNat 0
theorem u_X3_named {ω : AO} {d G : Nat} {Θ : Th} {s : Int} {l : List Int} {Q : Int → Th → Prop} (hd : 5 ≤ d) (hs : Str Θ s l) (hw : wide l = 0) (hQ : Q (csF l) Θ) : w2_X3_named ω d G s Θ Q := sorry
/-! 65.dc.lean.txt -/
/-! the tables of the charsets of one byte each -/
set_option maxRecDepth 100000
def HIL : List Int := [8364, 65533, 8218, 402, 8222, 8230, 8224, 8225, 710, 8240, 352, 8249, 338, 65533, 381, 65533, 65533, 8216, 8217, 8220, 8221, 8226, 8211, 8212, 732, 8482, 353, 8250, 339, 65533, 382, 376]
def NIL9 : List Int := [164, 8364, 166, 352, 168, 353, 180, 381, 184, 382, 188, 338, 189, 339, 190, 376]
def RUL : List Int := [1102, 1072, 1073, 1094, 1076, 1077, 1092, 1075, 1093, 1080, 1081, 1082, 1083, 1084, 1085, 1086, 1087, 1103, 1088, 1089, 1090, 1091, 1078, 1074, 1100, 1099, 1079, 1096, 1101, 1097, 1095, 1098]
theorem wdA {ω : AO} {Θ : Th} {X : AS → Prop} (h : Wd ω Θ → Bl Θ → Hid (∀ S, bel S → R2 ω S Θ → X S)) : Hid (∀ S, bel S → R2 ω S Θ → X S) :=
  Hid.mk (fun S w R => Hid.out (h R.wd R.bl) S w R)
def tb0 (set j : Int) : Int := if set = 0 ∨ set = 8 then (if j < 128 then j else 65533) else j
def tb3 (set k j : Int) : Int := if 128 ≤ j ∧ j < 128 + k then gt HIL (j - 128) else tb0 set j
def n9 : Nat → Int → Int
  | 0, j => j
  | i + 1, j => if j = gt NIL9 (2 * i) then gt NIL9 (2 * i + 1) else n9 i j
def tb8 (k j : Int) : Int := if 192 ≤ j ∧ j < 192 + k then gt RUL (j - 192) else if 224 ≤ j ∧ j < 224 + k then gt RUL (j - 224) - 32 else tb0 8 j
section TBX
variable {ω : AO} {d G : Nat} {Θ Θ1 Θ2 : Th} {a t set i x : Int} {V : List Int}
def TBI (Θ Θ1 : Th) (a t : Int) (V : List Int) : Prop := GrX (· = a) Θ Θ1 ∧ kd Θ t = 0 ∧ xo Θ1 a = (45, [t], 0, 0) ∧ xo Θ1 t = (104, V, 0, 0) ∧ len V = 256 ∧ ¬ fz Θ1 t ∧ a ≠ t
theorem TBI.put (h : TBI Θ Θ1 a t V) (t2 : Θ2 = pf Θ1 t i x) : TBI Θ Θ2 a t (V.set i.toNat x) := sorry
theorem TBI.rd (h : TBI Θ Θ1 a t V) : kd Θ1 a = 45 ∧ gt (vv Θ1 a) 0 = t ∧ kd Θ1 t = 104 ∧ vv Θ1 t = V ∧ ¬ fz Θ1 t ∧ len V = 256 := sorry
theorem u_X31_init {Q : Th → Prop} (hd : 1 ≤ d) (h0 : 0 ≤ a) (hQ : Q Θ) : w2_X31_init ω d G a Θ Q := s2_X31_init ⟨hd, h0, hQ⟩
theorem u_X35_init {Q : Th → Prop} (hd : 2 ≤ d) (h : xo Θ a = (45, [-1], 0, 0)) (hf : ¬ fz Θ a) (hset : 0 ≤ set ∧ set ≤ 9) (hno : set ≠ 4 ∧ set ≠ 5 ∧ set ≠ 6 ∧ set ≠ 7 ∧ set ≠ 9) (hG : 53 ≤ G)
    (hQ : ∀ Θ2 t V, GrX (· = a) Θ Θ2 → kd Θ t = 0 → xo Θ2 a = (45, [t], 0, 0) → xo Θ2 t = (104, V, 0, 0) → len V = 256 → (∀ k, 0 ≤ k → k < 256 → gt V k = chr1 set k) → Q (fr Θ2 (fun b => b = a ∨ kd Θ b = 0))) : w2_X35_init ω d G a set Θ Q := sorry
end TBX

/-! 65.dd.lean.txt -/
/-! charsets: the object of each, what it reads -/
set_option maxRecDepth 100000
/-- all characters of bytes -/
def chsF (set : Int) (l : List Int) : List Int := if set = 4 then utf8 l else if set = 5 ∨ set = 6 ∨ set = 7 then rd16 set l else if set = 9 then sv7 l 0 else l.map (chr1 set)
def CsO (Θ : Th) (r set : Int) : Prop :=
  (set = 4 ∧ Fx Θ r (67, [], 0, 0)) ∨ ((set = 5 ∨ set = 6 ∨ set = 7) ∧ Fx Θ r (44, [set], 0, 0)) ∨ (set = 9 ∧ Fx Θ r (69, [], 0, 0)) ∨
  ((set ≠ 4 ∧ set ≠ 5 ∧ set ≠ 6 ∧ set ≠ 7 ∧ set ≠ 9) ∧ ∃ t V, Fx Θ r (45, [t], 0, 0) ∧ Fx Θ t (104, V, 0, 0) ∧ len V = 256 ∧ ∀ k, 0 ≤ k → k < 256 → gt V k = chr1 set k)
/-- the charsets that were made -/
def CHS (Θ : Th) (a arr : Int) : Prop := ∃ cells, xo Θ a = (17, [arr], 0, 0) ∧ xo Θ arr = (108, cells, 0, 0) ∧ len cells = 10 ∧ ¬ fz Θ arr ∧ ¬ fz Θ a ∧ ∀ i, 0 ≤ i → i < 10 → gt cells i = -1 ∨ CsO Θ (gt cells i) i
section CSX
variable {ω : AO} {d G g : Nat} {Θ Θ1 : Th} {a arr r set l t c e : Int} {m : List Int} {A : Int → Prop} {cl : Cl} {ex : Int → Prop}
theorem CsO.le (h : CsO Θ r set) (L : Le Θ Θ1) : CsO Θ1 r set := sorry
theorem CsO.kx (h : CsO Θ r set) : kd Θ r = 67 ∨ kd Θ r = 44 ∨ kd Θ r = 69 ∨ kd Θ r = 45 := sorry
theorem CHS.keep (h : CHS Θ a arr) (g : GrX ex Θ Θ1) (h1 : ¬ ex a) (h2 : ¬ ex arr) : CHS Θ1 a arr := sorry
theorem Fx.fr (hx : xo Θ r = cl) (hA : A r) (hc : 0 < cl.1 ∧ cl.1 < 200) : Fx (fr Θ A) r cl := sorry
theorem u_X32_init {Q : Th → Prop} (hd : 2 ≤ d) (h : xo Θ r = (67, [], 0, 0)) (hQ : Q (fr Θ (fun b => b = r))) : w2_X32_init ω d G r Θ Q := sorry
theorem u_X34_init {Q : Th → Prop} (hd : 2 ≤ d) (h : xo Θ r = (69, [], 0, 0)) (hQ : Q (fr Θ (fun b => b = r))) : w2_X34_init ω d G r Θ Q := sorry
theorem u_X33_init {x : Int} {Q : Th → Prop} (hd : 2 ≤ d) (h : xo Θ r = (44, [x], 0, 0)) (hf : ¬ fz Θ r) (hs : inI set) (hQ : ∀ Θ2, GrX (· = r) Θ Θ2 → xo Θ2 r = (44, [set], 0, 0) → Q (fr Θ2 (fun b => b = r))) : w2_X33_init ω d G r set Θ Q := sorry
theorem u_X3_at {Q : Int → Th → Prop} (hd : 4 ≤ d) (h : CHS Θ a arr) (hs : 0 ≤ set ∧ set < 10) (hG : 54 ≤ G) (hQ : ∀ r Θ', GrX (· = arr) Θ Θ' → CHS Θ' a arr → CsO Θ' r set → Q r Θ') : w2_X3_at ω d G a set Θ Q := sorry
/-- bytes are read in a charset -/
theorem cs_read {F : Nat → Th → Prop} (hd : 12 ≤ d) (h : CsO Θ r set) (h1 : kd Θ l = 19) (hne : l ≠ t) (ht : -1 ≤ t) (h2 : xo Θ t = (19, m, c, e)) (hf : ¬ fz Θ t) (hc : 2 ≤ c ∧ c ≤ 20000000) (hb : byt (vv Θ l)) (hl : len (vv Θ l) ≤ 1000000) (hm : len m ≤ 1000000)
    (hS : (chsF set (vv Θ l)).length ≤ 5000000) (hG : g + (len (vv Θ l) + 1 + (rwN c (len m) (chsF set (vv Θ l)).length - c)).toNat ≤ G)
    (hF : ∀ Θ', GrX (· = t) Θ Θ' → xo Θ' t = (19, m ++ chsF set (vv Θ l), rwN c (len m) (chsF set (vv Θ l)).length, e) → ¬ fz Θ' t → F (len (vv Θ l) + 1 + (rwN c (len m) (chsF set (vv Θ l)).length - c)).toNat Θ') :
    ((kd Θ r = 44) ∧ ∃ G' : Nat, (g + G' ≤ G) ∧ w2_X33_read ω (d - 1) G' r l t Θ (fun Θ' => ∀ (_ : Le Θ Θ'), F G' Θ')) ∨ ((kd Θ r = 45) ∧ ∃ G' : Nat, (g + G' ≤ G) ∧ w2_X35_read ω (d - 1) G' r l t Θ (fun Θ' => ∀ (_ : Le Θ Θ'), F G' Θ')) ∨ ((kd Θ r = 67) ∧ ∃ G' : Nat, (g + G' ≤ G) ∧ w2_X32_read ω (d - 1) G' r l t Θ (fun Θ' => ∀ (_ : Le Θ Θ'), F G' Θ')) ∨ ((kd Θ r = 69) ∧ ∃ G' : Nat, (g + G' ≤ G) ∧ w2_X34_read ω (d - 1) G' r l t Θ (fun Θ' => ∀ (_ : Le Θ Θ'), F G' Θ')) := sorry
end CSX

/-! 65.de.lean.txt -/
/-! encoded words: where they end -/
set_option maxRecDepth 100000
def ne2 (x y c : Int) : Bool := decide (c ≠ x ∧ c ≠ y)
/-- the name of a charset: small, or nothing -/
def nmS (l : List Int) (f t : Int) : List Int := if (sub l f t).all (fun c => decide (33 ≤ c ∧ c ≤ 126)) = true then (sub l f t).map lowB else []
def fsF (l : List Int) (k : Int) : Int := scn (ne2 63 63) l (k + 2)
def stF (l : List Int) (k f : Int) : Int := csF (nmS l (k + 2) (min f (scn (ne2 42 63) l (k + 2))))
def ne3 (c : Int) : Bool := decide (c ≠ 63 ∧ ¬ chBl c)
/-- where an encoded word ends -/
def weF (l : List Int) (k : Int) : Int :=
  if atI l k = 61 ∧ atI l (k + 1) = 63 ∧ (orI (atI l (fsF l k + 1)) 32 = 113 ∨ orI (atI l (fsF l k + 1)) 32 = 98) ∧ 64 ≤ atI l (fsF l k + 1) ∧ atI l (fsF l k + 2) = 63 ∧ 0 ≤ stF l k (fsF l k) ∧ atI l (scn ne3 l (fsF l k + 3)) = 63 ∧ atI l (scn ne3 l (fsF l k + 3) + 1) = 61
  then scn ne3 l (fsF l k + 3) + 2 else -1
theorem sub_snoc {l : List Int} {f k : Int} (h : 0 ≤ f ∧ f ≤ k ∧ k < len l) : sub l f (k + 1) = sub l f k ++ [gt l k] := sorry
theorem sub_same {l : List Int} {f : Int} : sub l f f = [] := sub_nil
theorem nmS_wide {l : List Int} {f t : Int} : wide (nmS l f t) = 0 := sorry
theorem nmS_len {l : List Int} {f t : Int} (h : 0 ≤ f ∧ f ≤ t ∧ t ≤ len l) : len (nmS l f t) ≤ t - f := sorry
section ENX
variable {ω : AO} {d G : Nat} {Θ : Th} {a r tp tx ch f t x y : Int} {l : List Int}
theorem u_X30_next {Q : Int → Th → Prop} (ha : xo Θ a = (43, [tp, tx, ch], 0, 0)) (ht : kd Θ tp = 19) (hl : vv Θ tp = l) (hf : 0 ≤ f ∧ f ≤ len l) (hn : len l ≤ 1000000) (hx : inI x) (hy : inI y) (hQ : Q (scn (ne2 x y) l f) Θ) : w2_X30_next ω d G a f x y Θ Q := sorry
theorem u_X30_name {Q : Int → Th → Prop} (hd : 9 ≤ d) (hr : kd Θ r = 19) (hl : vv Θ r = l) (hf : 0 ≤ f ∧ f ≤ t ∧ t ≤ len l) (hn : len l ≤ 1000000) (hG : 5 * (t - f) + 27 ≤ (G : Int)) (hQ : ∀ s Θ', NewS Θ Θ' s (nmS l f t) → Q s Θ') : w2_X30_name ω d G r f t Θ Q := sorry
theorem u_X30_setOf {k : Int} {Q : Int → Th → Prop} (hd : 10 ≤ d) (ha : xo Θ a = (43, [tp, tx, ch], 0, 0)) (ht : kd Θ tp = 19) (hl : vv Θ tp = l) (hk : 0 ≤ k ∧ k + 2 ≤ f ∧ f ≤ len l) (hn : len l ≤ 1000000) (hG : 5 * (f - (k + 2)) + 27 ≤ (G : Int)) (hQ : ∀ Θ', Gr Θ Θ' → Q (stF l k f) Θ') : w2_X30_setOf ω d G a k f Θ Q := sorry
theorem u_X30_isWhite {Q : Int → Th → Prop} (hd : 1 ≤ d) (hr : kd Θ r = 19) (hl : vv Θ r = l) (hn : len l ≤ 1000000) (hQ : ∀ z, z = (if l.all (fun c => decide (chBl c ∨ c = 13 ∨ c = 10)) = true then 1 else 0) → Q z Θ) : w2_X30_isWhite ω d G r Θ Q := sorry
end ENX

/-! 65.df.lean.txt -/
/-! encoded words: wordEnd -/
set_option maxRecDepth 100000
/-- what looking for an encoded word costs -/
def weC (l : List Int) (k : Int) : Int := if atI l k = 61 ∧ atI l (k + 1) = 63 then 5 * (fsF l k - (k + 2)) + 27 else 0
theorem atI_im {l : List Int} {k x : Int} (h : atI l k = x) (hx : 0 ≤ x) : 0 ≤ k ∧ k < len l := sorry
section WEX
variable {ω : AO} {d G : Nat} {Θ : Th} {a tp tx ch k : Int} {l : List Int}
theorem u_X30_wordEnd {Q : Int → Th → Prop} (hd : 11 ≤ d) (ha : xo Θ a = (43, [tp, tx, ch], 0, 0)) (ht : kd Θ tp = 19) (hl : vv Θ tp = l) (hk : 0 ≤ k ∧ k ≤ len l) (hn : len l ≤ 1000000) (hG : weC l k ≤ (G : Int)) (hQ : ∀ Θ', Gr Θ Θ' → Q (weF l k) Θ') : w2_X30_wordEnd ω d G a k Θ Q := sorry
end WEX

/-! 65.dg.lean.txt -/
/-! encoded words: one word -/
set_option maxRecDepth 100000
theorem unbase_byt : ∀ (b n : Int) (l : List Int), byt (unbase b n l) := sorry
def qwV (s : List Int) (k : Int) : Int := if gt s k = 61 then hbF s (k + 1) else -1
def qwC (s : List Int) (k : Int) : Int := if 0 ≤ qwV s k then qwV s k else if gt s k = 95 then 32 else gt s k
/-- the bytes of an encoded word of the sort q -/
def qwF (s : List Int) (k : Int) : List Int := if h : 0 ≤ k ∧ k < len s then qwC s k :: qwF s (if 0 ≤ qwV s k then k + 3 else k + 1) else []
termination_by (len s - k).toNat
decreasing_by
  split <;> omega
theorem qwF_ok {s : List Int} (hb : byt s) : ∀ (N : Nat) (k : Int), (len s - k).toNat = N → 0 ≤ k → byt (qwF s k) ∧ (qwF s k).length ≤ N := sorry
def wdB (l : List Int) (k e : Int) : List Int := if orI (atI l (fsF l k + 1)) 32 = 98 then unbase 0 0 (sub l (fsF l k + 3) (e - 2)) else qwF (sub l (fsF l k + 3) (e - 2)) 0
/-- the characters of an encoded word -/
def wdT (l : List Int) (k e : Int) : List Int := chsF (stF l k (fsF l k)) (wdB l k e)
theorem csF_lt (t : List Int) : csF t < 10 := sorry
/-- what holds of an encoded word -/
theorem weF_ok {l : List Int} {k e : Int} (h : weF l k = e) (h0 : 0 ≤ e) (hk : 0 ≤ k) : k + 2 ≤ fsF l k ∧ fsF l k + 3 ≤ e - 2 ∧ e ≤ len l ∧ 0 ≤ stF l k (fsF l k) := sorry
section WDX
variable {ω : AO} {d G : Nat} {Θ : Th} {a tp tx ch arr k c e en : Int} {l m : List Int}
theorem u_X38_init {r : Int} {Q : Th → Prop} (hd : 3 ≤ d) (h0 : 0 ≤ r) (hQ : Q Θ) : w2_X38_init ω d G r Θ Q := sorry
theorem u_X30_word {Q : Th → Prop} (hd : 13 ≤ d) (ha : xo Θ a = (43, [tp, tx, ch], 0, 0)) (ht : kd Θ tp = 19) (hl : vv Θ tp = l) (hb : byt l) (hn : len l ≤ 100000) (hx : xo Θ tx = (19, m, c, e)) (hft : ¬ fz Θ tx) (hc : 2 ≤ c ∧ c ≤ 20000000) (hm : len m ≤ 1000000) (hch : CHS Θ ch arr)
    (hk : 0 ≤ k) (he : weF l k = en) (he0 : 0 ≤ en) (hS : (wdT l k en).length ≤ 5000000) (hG : 100 + 5 * (en - k) + (rwN c (len m) (wdT l k en).length - c) ≤ (G : Int))
    (hQ : ∀ Θ', GrX (fun b => b = tx ∨ b = arr) Θ Θ' → xo Θ' tx = (19, m ++ wdT l k en, rwN c (len m) (wdT l k en).length, e) → ¬ fz Θ' tx → CHS Θ' ch arr → Q Θ') : w2_X30_word ω d G a k en Θ Q := sorry
end WDX

/-! 65.dh.lean.txt -/
/-! encoded words: all of a value -/
set_option maxRecDepth 100000
theorem rnO_lenK {l : List Int} : ∀ (N : Nat) (k b n p : Int), (len l - k).toNat = N → k ≤ rnK l k ∧ ((rnO l k b n p).length : Int) ≤ 2 * (rnK l k - k) + 1 := sorry
theorem sv7_len {l : List Int} : ∀ (N : Nat) (k : Int), (len l - k).toNat = N → 0 ≤ k → (sv7 l k).length ≤ 2 * N := sorry
theorem chsF_len {set : Int} {l : List Int} : (chsF set l).length ≤ 2 * l.length + 1 := sorry
theorem wdB_len {l : List Int} {k e : Int} (hb : byt l) (h : weF l k = e) (h0 : 0 ≤ e) (hk : 0 ≤ k) : ((wdB l k e).length : Int) ≤ e - k - 7 := sorry
theorem wdT_len {l : List Int} {k e : Int} (hb : byt l) (h : weF l k = e) (h0 : 0 ≤ e) (hk : 0 ≤ k) : ((wdT l k e).length : Int) ≤ 2 * (e - k) - 13 := sorry
def whB (l : List Int) : Bool := l.all (fun c => decide (chBl c ∨ c = 13 ∨ c = 10))
/-- the characters of a value with encoded words -/
def enR (l : List Int) (k : Int) (pl : List Int) (w : Bool) : List Int :=
  if h : 0 ≤ k ∧ k < len l then
    if weF l k < 0 then enR l (k + 1) (pl ++ [gt l k]) w
    else (if w = true ∧ whB pl = true then [] else utf8 pl) ++ (wdT l k (weF l k) ++ enR l (max (k + 1) (weF l k)) [] true)
  else utf8 pl
termination_by (len l - k).toNat
theorem enR_len {l : List Int} (hb : byt l) : ∀ (N : Nat) (k : Int) (pl : List Int) (w : Bool), (len l - k).toNat = N → 0 ≤ k → (enR l k pl w).length ≤ 2 * N + pl.length := sorry
section EDX
variable {ω : AO} {d G : Nat} {Θ Θ1 : Th} {a tp tx ch arr k c e : Int} {l m : List Int}
/-- how far the reading is -/
def EDN (l m : List Int) (c : Int) (T : List Int) (k q cpl : Int) (g : Nat) (pl o : List Int) : Prop :=
  (0 ≤ k ∧ k ≤ len l) ∧ (8 ≤ cpl ∧ cpl ≤ 2 * len l + 8 ∧ len pl ≤ cpl ∧ len pl ≤ k) ∧ byt pl ∧ o.length ≤ T.length ∧ (0 ≤ q ∧ q ≤ len l) ∧ (∀ j, k ≤ j → atI l (j + 1) = 63 → q ≤ j + 2) ∧
  (g : Int) + len pl ≤ 4 + 40 * k + 5 * q + (cpl - 8) + (rwN c (len m) o.length - c)
/-- the plain bytes come to the text -/
theorem ed_flush {F : Nat → Th → Prop} {g : Nat} {p r : Int} {pl o : List Int} (hd : 13 ≤ d) (cs : CsO Θ1 r 4) (hp : kd Θ1 p = 19) (hv : vv Θ1 p = pl) (hpx : p ≠ tx) (h0 : -1 ≤ tx) (hx : xo Θ1 tx = (19, m ++ o, rwN c (len m) o.length, e)) (hft : ¬ fz Θ1 tx) (hc : 2 ≤ c ∧ c ≤ 10000000) (hb : byt pl) (hl : len pl ≤ 400000) (hm : len m + len o ≤ 900000)
    (hG : g + (len pl + 1 + (rwN c (len m) (o ++ utf8 pl).length - rwN c (len m) o.length)).toNat ≤ G)
    (hF : ∀ Θ', GrX (· = tx) Θ1 Θ' → xo Θ' tx = (19, m ++ (o ++ utf8 pl), rwN c (len m) (o ++ utf8 pl).length, e) → ¬ fz Θ' tx → F (len pl + 1 + (rwN c (len m) (o ++ utf8 pl).length - rwN c (len m) o.length)).toNat Θ') :
    ((kd Θ1 r = 44) ∧ ∃ G' : Nat, (g + G' ≤ G) ∧ w2_X33_read ω (d - 1) G' r p tx Θ1 (fun Θ' => ∀ (_ : Le Θ1 Θ'), F G' Θ')) ∨ ((kd Θ1 r = 45) ∧ ∃ G' : Nat, (g + G' ≤ G) ∧ w2_X35_read ω (d - 1) G' r p tx Θ1 (fun Θ' => ∀ (_ : Le Θ1 Θ'), F G' Θ')) ∨ ((kd Θ1 r = 67) ∧ ∃ G' : Nat, (g + G' ≤ G) ∧ w2_X32_read ω (d - 1) G' r p tx Θ1 (fun Θ' => ∀ (_ : Le Θ1 Θ'), F G' Θ')) ∨ ((kd Θ1 r = 69) ∧ ∃ G' : Nat, (g + G' ≤ G) ∧ w2_X34_read ω (d - 1) G' r p tx Θ1 (fun Θ' => ∀ (_ : Le Θ1 Θ'), F G' Θ')) := sorry
end EDX

/-! 65.di.lean.txt -/
/-! encoded words: read -/
set_option maxRecDepth 100000
def exE (tx arr : Int) : Int → Prop := fun b => b = tx ∨ b = arr
def EDS (Θ Θ1 : Th) (tx ch arr p : Int) (m : List Int) (c e : Int) (pl : List Int) (cpl ep : Int) (o : List Int) : Prop :=
  GrX (exE tx arr) Θ Θ1 ∧ xo Θ1 tx = (19, m ++ o, rwN c (len m) o.length, e) ∧ ¬ fz Θ1 tx ∧ CHS Θ1 ch arr ∧ xo Θ1 p = (19, pl, cpl, ep) ∧ ¬ fz Θ1 p
section EEX
variable {ω : AO} {d G : Nat} {Θ Θ1 Θ2 : Th} {a tp tx ch arr p k q c e cpl ep : Int} {l m pl o T : List Int} {g : Nat}
theorem EDS.gr (h : EDS Θ Θ1 tx ch arr p m c e pl cpl ep o) (g1 : Gr Θ1 Θ2) (hex : ∀ b, exE tx arr b → 0 < kd Θ b ∧ kd Θ b < 200) : EDS Θ Θ2 tx ch arr p m c e pl cpl ep o := sorry
theorem u_X30_read {Q : Int → Th → Prop} (hd : 14 ≤ d) (ha : xo Θ a = (43, [tp, tx, ch], 0, 0)) (ht : kd Θ tp = 19) (hl : vv Θ tp = l) (htt : tp ≠ tx) (hb : byt l) (hn : len l ≤ 100000) (hx : xo Θ tx = (19, m, c, e)) (hft : ¬ fz Θ tx) (hc : 2 ≤ c ∧ c ≤ 10000000) (hm : len m ≤ 100000) (hch : CHS Θ ch arr)
    (hG : 50 * len l + 100 + (rwN c (len m) (enR l 0 [] false).length - c) ≤ (G : Int))
    (hQ : ∀ Θ', GrX (exE tx arr) Θ Θ' → xo Θ' tx = (19, m ++ enR l 0 [] false, rwN c (len m) (enR l 0 [] false).length, e) → ¬ fz Θ' tx → CHS Θ' ch arr → Q tx Θ') : w2_X30_read ω d G a Θ Q := sorry
end EEX

/-! 65.dj.lean.txt -/
/-! Encoded made, codings by name, an address in one -/
set_option maxRecDepth 100000
def tb_X2_coding : List (List Int × Int) := [([98, 97, 115, 101, 54, 52], 0), ([113, 117, 111, 116, 101, 100, 45, 112, 114, 105, 110, 116, 97, 98, 108, 101], 1), ([120, 45, 117, 117, 101, 110, 99, 111, 100, 101], 2)]
/-- a coding's object: none, Base64, Quoted, Hexed -/
def CdO (Θ : Th) (r i : Int) : Prop := (i = -1 ∧ r = -1) ∨ (i = 0 ∧ xo Θ r = (66, [], 0, 0)) ∨ (i = 1 ∧ xo Θ r = (68, [], 0, 0)) ∨ (i = 2 ∧ xo Θ r = (48, [0], 0, 0) ∧ ¬ fz Θ r)
def adS (lo dm : List Int) : List Int := if dm = [] then lo else lo ++ [64] ++ dm
section CDX
variable {ω : AO} {d G : Nat} {Θ : Th} {a b c ch r s t x y : Int} {l lo dm : List Int}
theorem u_X30_init {Q : Th → Prop} (hd : 6 ≤ d) (h : xo Θ a = (43, [-1, -1, -1], 0, 0)) (hf : ¬ fz Θ a) (hs : Str Θ s l) (hl : len l ≤ 1000000) (hch : 0 < kd Θ ch) (hG : 2 * len l + 20 ≤ (G : Int))
    (hQ : ∀ Θ' tp tx g, GrX (· = a) Θ Θ' → xo Θ' a = (43, [tp, tx, ch], 0, 0) → ROW 19 8 Θ' tp l 4 g → xo Θ' tx = (19, [], 8, 0) → ¬ fz Θ' tx → tp ≠ tx → kd Θ tp = 0 → kd Θ tx = 0 → Q Θ') : w2_X30_init ω d G a s ch Θ Q := sorry
theorem u_X41_init {Q : Th → Prop} (hd : 4 ≤ d) (h0 : 0 ≤ r) (hQ : Q Θ) : w2_X41_init ω d G r Θ Q := sorry
theorem u_X42_init {Q : Th → Prop} (hd : 4 ≤ d) (h0 : 0 ≤ r) (hQ : Q Θ) : w2_X42_init ω d G r Θ Q := sorry
theorem u_X2_coding {Q : Int → Th → Prop} (hd : 5 ≤ d) (hs : Str Θ s l) (hw : wide l = 0) (hG : 1 ≤ G) (hQ : ∀ r Θ', Gr Θ Θ' → CdO Θ' r (lkI tb_X2_coding l) → (r = -1 ∨ kd Θ r = 0) → Q r Θ') : w2_X2_coding ω d G a s Θ Q := sorry
theorem u_X29_address {Q : Int → Th → Prop} (hd : 11 ≤ d) (h : xo Θ a = (42, [t, b, c, x, y], 0, 0)) (hb : Str Θ b lo) (hc : Str Θ c dm) (hl : len lo ≤ 100000 ∧ len dm ≤ 100000) (hG : 5 * (len lo + len dm) + 32 ≤ (G : Int)) (hQ : ∀ r Θ', NewS Θ Θ' r (adS lo dm) → Q r Θ') : w2_X29_address ω d G a Θ Q := sorry
end CDX

/-! 65.dk.lean.txt -/
/-! new StringBuilder of a Latin-1 text -/
set_option maxRecDepth 100000
section BLD9
variable {ω : AO} {d G : Nat} {S S' : AS} {Θ : Th} {a s : Int} {m : List Int}
theorem t_J1_init_2 {QV : AS → Prop} (hd : 14 ≤ d) (ht : tg S a = 1) (ha : 0 ≤ a) (hb : bo ω ≤ a) (h3 : ct S a 3 = 0) (hs : StrC S s m) (hw : wide m = 0) (hs0 : 0 ≤ s) (hlm : ln S (ct S s 0) ≤ 30000000) (hwf : s < nx S ∧ ct S s 0 < nx S) (h0 : 0 ≤ nx S ∧ bo ω ≤ nx S) (hna : a < nx S) (hl : len m ≤ 1000000) (hG : (len m).toNat + 30 ≤ G)
    (hQ : ∀ S', BldC ω S' a m (len m + 16) 0 → Kp S S' (fun b => b = a) → nx S ≤ ct S' a 0 → nx S ≤ nx S' → QV S') : w_J1_init_2 ω d G a s S QV := sorry
theorem u_J1_init_2 {QV : Th → Prop} (hd : 14 ≤ d) (hk : kd Θ a = 201) (hs : Str Θ s m) (hw : wide m = 0) (hl : len m ≤ 1000000) (hG : (len m).toNat + 30 ≤ G) (hQ : ∀ Θ', Θ' = uq Θ a (1, m, len m + 16, 0) → QV Θ') : w2_J1_init_2 ω d G a s Θ QV := sorry
end BLD9

/-! 66.aa.lean.txt -/
/-! segments -/
set_option maxRecDepth 100000
def w2_X23_init (ω : AO) (d G : Nat) (l0 l1 l2 : Int) (Θ : Th) (Q : Th → Prop) : Prop := Hid (∀ S, bel S → R2 ω S Θ → Ctr ω yX23_init cX23_init 3 none d G [(2, l0), (2, l1), (2, l2)] S (eU S (q2U ω Θ Q)))
def w2_X23_name (ω : AO) (d G : Nat) (l0 : Int) (Θ : Th) (Q : Int → Th → Prop) : Prop := Hid (∀ S, bel S → R2 ω S Θ → Ctr ω yX23_name cX23_name 1 (some (.object "java/lang/String")) d G [(2, l0)] S (eA S (q2 ω Θ Q)))
def w2_X23_value (ω : AO) (d G : Nat) (l0 : Int) (Θ : Th) (Q : Int → Th → Prop) : Prop := Hid (∀ S, bel S → R2 ω S Θ → Ctr ω yX23_value cX23_value 1 (some (.object "java/lang/String")) d G [(2, l0)] S (eA S (q2 ω Θ Q)))
def w2_X24_outside (ω : AO) (d G : Nat) (l0 l1 l2 : Int) (Θ : Th) (Q : Int → Th → Prop) : Prop := Hid (∀ S, bel S → R2 ω S Θ → Ctr ω yX24_outside cX24_outside 5 (some .int) d G [(2, l0), (0, l1), (0, l2)] S (eI S (q2 ω Θ Q)))
def w2_X24_unquoted (ω : AO) (d G : Nat) (l0 : Int) (Θ : Th) (Q : Int → Th → Prop) : Prop := Hid (∀ S, bel S → R2 ω S Θ → Ctr ω yX24_unquoted cX24_unquoted 3 (some (.object "java/lang/String")) d G [(2, l0)] S (eA S (q2 ω Θ Q)))
def w2_X24_find (ω : AO) (d G : Nat) (l0 l1 : Int) (Θ : Th) (Q : Int → Th → Prop) : Prop := Hid (∀ S, bel S → R2 ω S Θ → Ctr ω yX24_find cX24_find 3 (some (.object "java/lang/String")) d G [(2, l0), (2, l1)] S (eA S (q2 ω Θ Q)))
def w2_X24_parameter (ω : AO) (d G : Nat) (l0 l1 : Int) (Θ : Th) (Q : Th → Prop) : Prop := Hid (∀ S, bel S → R2 ω S Θ → Ctr ω yX24_parameter cX24_parameter 4 none d G [(2, l0), (2, l1)] S (eU S (q2U ω Θ Q)))
def w2_X24_init (ω : AO) (d G : Nat) (l0 l1 : Int) (Θ : Th) (Q : Th → Prop) : Prop := Hid (∀ S, bel S → R2 ω S Θ → Ctr ω yX24_init cX24_init 6 none d G [(2, l0), (2, l1)] S (eU S (q2U ω Θ Q)))
theorem lf_X23_7_36 : FLk RX23 7 36 0 (.object "java/lang/String") true := sorry
theorem lf_X23_13_36 : FLk RX23 13 36 1 (.object "java/lang/String") true := sorry
theorem lr_X23_7_36 : FLkR RX23 7 36 0 (.object "java/lang/String") := sorry
theorem lr_X23_13_36 : FLkR RX23 13 36 1 (.object "java/lang/String") := sorry
theorem lm_X24_22 : VLk RX24 22 2 yJ2_length cJ2_length 1 (some .int) 0 := sorry
theorem lm_X24_46 : VLk RX24 46 2 yJ2_charAt cJ2_charAt 2 (some .char) 1 := sorry
theorem lm_X24_71 : VLk RX24 71 2 yJ2_isEmpty cJ2_isEmpty 1 (some .boolean) 0 := sorry
theorem lm_X24_77 : ILk RX24 77 yJ1_init cJ1_init 1 0 := sorry
theorem lm_X24_78 : VLk RX24 78 1 yJ1_toString cJ1_toString 1 (some (.object "java/lang/String")) 0 := sorry
theorem lm_X24_82 : VLk RX24 82 1 yJ1_append cJ1_append 2 (some (.object "java/lang/StringBuilde\x72")) 1 := sorry
theorem lr_X24_18_37 : FLkR RX24 18 37 1 (.object "java/util/ArrayList") := sorry
theorem lm_X24_86 : VLk RX24 86 3 yJ7_size cJ7_size 1 (some .int) 0 := sorry
theorem lm_X24_89 : VLk RX24 89 3 yJ7_get cJ7_get 2 (some (.object "java/lang/Object")) 1 := sorry
theorem lm_X24_93 : VLk RX24 93 36 yX23_name cX23_name 1 (some (.object "java/lang/String")) 0 := sorry
theorem lm_X24_96 : VLk RX24 96 2 yJ2_equals cJ2_equals 3 (some .boolean) 1 := sorry
theorem lm_X24_99 : VLk RX24 99 36 yX23_value cX23_value 1 (some (.object "java/lang/String")) 0 := sorry
theorem lm_X24_28 : SLk RX24 28 yX24_outside cX24_outside 5 (some .int) 3 := sorry
theorem lm_X24_32 : VLk RX24 32 2 yJ2_substring cJ2_substring 5 (some (.object "java/lang/String")) 2 := sorry
theorem lm_X24_36 : SLk RX24 36 yX12_trim cX12_trim 3 (some (.object "java/lang/String")) 1 := sorry
theorem lm_X24_50 : SLk RX24 50 yX12_small cX12_small 3 (some (.object "java/lang/String")) 1 := sorry
theorem lm_X24_53 : VLk RX24 53 37 yX24_find cX24_find 3 (some (.object "java/lang/String")) 1 := sorry
theorem lm_X24_58 : VLk RX24 58 2 yJ2_substring_2 cJ2_substring_2 2 (some (.object "java/lang/String")) 1 := sorry
theorem lm_X24_61 : SLk RX24 61 yX24_unquoted cX24_unquoted 3 (some (.object "java/lang/String")) 1 := sorry
theorem lm_X24_64 : ILk RX24 64 yX23_init cX23_init 3 2 := sorry
theorem lm_X24_67 : VLk RX24 67 3 yJ7_add cJ7_add 2 (some .boolean) 1 := sorry
theorem lf_X24_9_37 : FLk RX24 9 37 0 (.object "java/lang/String") false := sorry
theorem lm_X24_17 : ILk RX24 17 yJ7_init cJ7_init 1 0 := sorry
theorem lf_X24_18_37 : FLk RX24 18 37 1 (.object "java/util/ArrayList") true := sorry
theorem lm_X24_42 : VLk RX24 42 37 yX24_parameter cX24_parameter 4 none 1 := sorry
set_option maxHeartbeats 4000000 in
theorem s2_X23_init {ω : AO} {d G : Nat} {l0 l1 l2 : Int} {Θ : Th} {Q : Th → Prop} (hB : (1 ≤ d) ∧ (0 ≤ l0) ∧ (kd Θ l0 = 36) ∧ (¬ fz Θ l0) ∧ (-1 ≤ l1) ∧ ∀ (Θ6 : Th) (t6 : Θ6 = pf Θ l0 0 l1), (¬ fz Θ6 l0) ∧ (-1 ≤ l2) ∧ ∀ (Θ11 : Th) (t11 : Θ11 = pf Θ6 l0 1 l2), Q Θ11) : w2_X23_init ω d G l0 l1 l2 Θ Q := sorry
set_option maxHeartbeats 4000000 in
theorem s2_X23_name {ω : AO} {d G : Nat} {l0 : Int} {Θ : Th} {Q : Int → Th → Prop} (hB : (kd Θ l0 = 36) ∧ ∀ (v1 : Int) (e1 : v1 = gt (vv Θ l0) 0) (r1 : -1 ≤ v1), Q v1 Θ) : w2_X23_name ω d G l0 Θ Q := sorry
set_option maxHeartbeats 4000000 in
theorem s2_X23_value {ω : AO} {d G : Nat} {l0 : Int} {Θ : Th} {Q : Int → Th → Prop} (hB : (kd Θ l0 = 36) ∧ ∀ (v1 : Int) (e1 : v1 = gt (vv Θ l0) 1) (r1 : -1 ≤ v1), Q v1 Θ) : w2_X23_value ω d G l0 Θ Q := sorry
def W2_X24_outside_5 (ω : AO) (d G : Nat) (l0 l2 l3 l4 : Int) (g : Nat) (Θ : Th) (Q : Int → Th → Prop) : Prop := Hid (SJ2 ω yX24_outside cX24_outside 5 (some .int) d G (fun Sz Θz => (eI Sz (q2 ω Θz Q))) 5 [(2, l0), vN, (0, l2), (0, l3), (0, l4)] [] g Θ)
def W2_X24_outside_76 (ω : AO) (d G : Nat) (l0 l4 : Int) (g : Nat) (Θ : Th) (Q : Int → Th → Prop) : Prop := Hid (SJ2 ω yX24_outside cX24_outside 5 (some .int) d G (fun Sz Θz => (eI Sz (q2 ω Θz Q))) 76 [(2, l0), vN, vN, vN, (0, l4)] [] g Θ)
def W2_X24_outside_28 (ω : AO) (d G : Nat) (l0 l2 l3 l4 : Int) (g : Nat) (Θ : Th) (Q : Int → Th → Prop) : Prop := Hid (SJ2 ω yX24_outside cX24_outside 5 (some .int) d G (fun Sz Θz => (eI Sz (q2 ω Θz Q))) 28 [(2, l0), vN, (0, l2), (0, l3), (0, l4)] [] g Θ)
def W2_X24_outside_48 (ω : AO) (d G : Nat) (l0 l2 l4 s0 : Int) (g : Nat) (Θ : Th) (Q : Int → Th → Prop) : Prop := Hid (SJ2 ω yX24_outside cX24_outside 5 (some .int) d G (fun Sz Θz => (eI Sz (q2 ω Θz Q))) 48 [(2, l0), vN, (0, l2), vN, (0, l4)] [(0, s0)] g Θ)
set_option maxHeartbeats 4000000 in
theorem s2_X24_outside {ω : AO} {d G : Nat} {l0 l1 l2 : Int} {Θ : Th} {Q : Int → Th → Prop} (hB : W2_X24_outside_5 ω d G l0 l2 0 l1 (0) Θ Q) : w2_X24_outside ω d G l0 l1 l2 Θ Q := sorry
set_option maxHeartbeats 4000000 in
theorem s2_X24_outside_5 {ω : AO} {d G : Nat} {l0 l2 l3 l4 : Int} {g : Nat} {Θ : Th} {Q : Int → Th → Prop} (hB : (1 ≤ d) ∧ (kd Θ l0 = 2) ∧ (2 ≤ d) ∧ (g ≤ G) ∧ ∀ (x8 : Int) (e8 : x8 = len (vv Θ l0)) (r8 : -2147483648 ≤ x8 ∧ x8 < 2147483648), (-2147483648 ≤ l4 ∧ l4 < 2147483648) ∧ (∀ (c11 : x8 ≤ l4), W2_X24_outside_76 ω d G l0 l4 (g) Θ Q) ∧ (∀ (c11 : l4 < x8), (-2147483648 ≤ l3 ∧ l3 < 2147483648) ∧ (∀ (c15 : ¬ l3 = 0), W2_X24_outside_28 ω d G l0 l2 l3 l4 (g) Θ Q) ∧ (∀ (c15 : l3 = 0), (0 ≤ l4 ∧ l4 < len (vv Θ l0)) ∧ (5 ≤ d) ∧ ∀ (x21 : Int) (e21 : x21 = gt (vv Θ l0) l4) (r21 : 0 ≤ x21 ∧ x21 < 65536), (-2147483648 ≤ l2 ∧ l2 < 2147483648) ∧ (∀ (c25 : x21 = l2), W2_X24_outside_76 ω d G l0 l4 (g) Θ Q) ∧ (∀ (c25 : ¬ x21 = l2), W2_X24_outside_28 ω d G l0 l2 l3 l4 (g) Θ Q)))) : W2_X24_outside_5 ω d G l0 l2 l3 l4 g Θ Q := sorry
set_option maxHeartbeats 4000000 in
theorem s2_X24_outside_76 {ω : AO} {d G : Nat} {l0 l4 : Int} {g : Nat} {Θ : Th} {Q : Int → Th → Prop} (hB : (1 ≤ d) ∧ (kd Θ l0 = 2) ∧ (2 ≤ d) ∧ (g ≤ G) ∧ ∀ (x79 : Int) (e79 : x79 = len (vv Θ l0)) (r79 : -2147483648 ≤ x79 ∧ x79 < 2147483648), (-2147483648 ≤ l4 ∧ l4 < 2147483648) ∧ (∀ (c82 : x79 ≤ l4), ∀ (x91 : Int) (e91 : x91 = len (vv Θ l0)) (r91 : -2147483648 ≤ x91 ∧ x91 < 2147483648), Q x91 Θ) ∧ (∀ (c82 : l4 < x79), Q l4 Θ)) : W2_X24_outside_76 ω d G l0 l4 g Θ Q := sorry
set_option maxHeartbeats 4000000 in
theorem s2_X24_outside_28 {ω : AO} {d G : Nat} {l0 l2 l3 l4 : Int} {g : Nat} {Θ : Th} {Q : Int → Th → Prop} (hB : (1 ≤ d) ∧ (kd Θ l0 = 2) ∧ (0 ≤ l4 ∧ l4 < len (vv Θ l0)) ∧ (5 ≤ d) ∧ (g ≤ G) ∧ ∀ (x31 : Int) (e31 : x31 = gt (vv Θ l0) l4) (r31 : 0 ≤ x31 ∧ x31 < 65536), (∀ (c36 : ¬ x31 = 34), (-2147483648 ≤ l3 ∧ l3 < 2147483648) ∧ (∀ (c53 : l3 = 0), W2_X24_outside_5 ω d G l0 l2 l3 ((l4 + 1)) (g) Θ Q) ∧ (∀ (c53 : ¬ l3 = 0), ∀ (x59 : Int) (e59 : x59 = gt (vv Θ l0) l4) (r59 : 0 ≤ x59 ∧ x59 < 65536), (∀ (c64 : ¬ x59 = 92), W2_X24_outside_5 ω d G l0 l2 l3 ((l4 + 1)) (g) Θ Q) ∧ (∀ (c64 : x59 = 92), W2_X24_outside_5 ω d G l0 l2 l3 (((l4 + 1) + 1)) (g) Θ Q))) ∧ (∀ (c36 : x31 = 34), (-2147483648 ≤ l3 ∧ l3 < 2147483648) ∧ (∀ (c40 : ¬ l3 = 0), W2_X24_outside_48 ω d G l0 l2 l4 0 (g) Θ Q) ∧ (∀ (c40 : l3 = 0), W2_X24_outside_48 ω d G l0 l2 l4 1 (g) Θ Q))) : W2_X24_outside_28 ω d G l0 l2 l3 l4 g Θ Q := sorry
set_option maxHeartbeats 4000000 in
theorem s2_X24_outside_48 {ω : AO} {d G : Nat} {l0 l2 l4 s0 : Int} {g : Nat} {Θ : Th} {Q : Int → Th → Prop} (hB : W2_X24_outside_5 ω d G l0 l2 s0 ((l4 + 1)) (g) Θ Q) : W2_X24_outside_48 ω d G l0 l2 l4 s0 g Θ Q := sorry
def W2_X24_unquoted_29 (ω : AO) (d G : Nat) (l0 l1 l2 : Int) (g : Nat) (Θ : Th) (Q : Int → Th → Prop) : Prop := Hid (SJ2 ω yX24_unquoted cX24_unquoted 3 (some (.object "java/lang/String")) d G (fun Sz Θz => (eA Sz (q2 ω Θz Q))) 29 [(2, l0), (2, l1), (0, l2)] [] g Θ)
def W2_X24_unquoted_65 (ω : AO) (d G : Nat) (l0 l1 l2 : Int) (g : Nat) (Θ : Th) (Q : Int → Th → Prop) : Prop := Hid (SJ2 ω yX24_unquoted cX24_unquoted 3 (some (.object "java/lang/String")) d G (fun Sz Θz => (eA Sz (q2 ω Θz Q))) 65 [(2, l0), (2, l1), (0, l2)] [] g Θ)
set_option maxHeartbeats 4000000 in
theorem s2_X24_unquoted {ω : AO} {d G : Nat} {l0 : Int} {Θ : Th} {Q : Int → Th → Prop} (hB : (1 ≤ d) ∧ (kd Θ l0 = 2) ∧ ∀ (x1 : Int) (e1 : x1 = if vv Θ l0 = [] then 1 else 0) (r1 : x1 = 0 ∨ x1 = 1), (∀ (c4 : ¬ x1 = 0), (-1 ≤ l0) ∧ Q l0 Θ) ∧ (∀ (c4 : x1 = 0), (0 ≤ (0 : Int) ∧ (0 : Int) < len (vv Θ l0)) ∧ (5 ≤ d) ∧ ∀ (x9 : Int) (e9 : x9 = gt (vv Θ l0) (0 : Int)) (r9 : 0 ≤ x9 ∧ x9 < 65536), (∀ (c14 : x9 = 34), (0 + 1 ≤ G) ∧ ∀ (v19 : Int) (Θ19 : Th) (u19 : nt Θ ≤ v19 ∧ 0 ≤ v19) (b19 : Bl Θ) (t19 : Θ19 = nu Θ v19 (201, [], 0, 0)), (3 ≤ d) ∧ (0 + 1 + 5 ≤ G) ∧ ∀ (Θ23 : Th) (t23 : Θ23 = uq Θ19 v19 (1, [], 16, 0)), W2_X24_unquoted_29 ω d G l0 v19 1 (0 + 1 + 5) Θ23 Q) ∧ (∀ (c14 : ¬ x9 = 34), (-1 ≤ l0) ∧ Q l0 Θ))) : w2_X24_unquoted ω d G l0 Θ Q := sorry
set_option maxHeartbeats 4000000 in
theorem s2_X24_unquoted_29 {ω : AO} {d G : Nat} {l0 l1 l2 : Int} {g : Nat} {Θ : Th} {Q : Int → Th → Prop} (hB : (1 ≤ d) ∧ (kd Θ l0 = 2) ∧ (2 ≤ d) ∧ (g ≤ G) ∧ ∀ (x31 : Int) (e31 : x31 = len (vv Θ l0)) (r31 : -2147483648 ≤ x31 ∧ x31 < 2147483648), (-2147483648 ≤ l2 ∧ l2 < 2147483648) ∧ (∀ (c34 : x31 ≤ l2), (-1 ≤ l0) ∧ Q l0 Θ) ∧ (∀ (c34 : l2 < x31), (0 ≤ l2 ∧ l2 < len (vv Θ l0)) ∧ (5 ≤ d) ∧ ∀ (x39 : Int) (e39 : x39 = gt (vv Θ l0) l2) (r39 : 0 ≤ x39 ∧ x39 < 65536), (∀ (c44 : ¬ x39 = 34), ∀ (x54 : Int) (e54 : x54 = gt (vv Θ l0) l2) (r54 : 0 ≤ x54 ∧ x54 < 65536), (∀ (c59 : ¬ x54 = 92), W2_X24_unquoted_65 ω d G l0 l1 l2 (g) Θ Q) ∧ (∀ (c59 : x54 = 92), W2_X24_unquoted_65 ω d G l0 l1 ((l2 + 1)) (g) Θ Q)) ∧ (∀ (c44 : x39 = 34), (kd Θ l1 = 1) ∧ (len (vv Θ l1) ≤ 15000000) ∧ (8 ≤ d) ∧ (g + (len (vv Θ l1) + 5).toNat ≤ G) ∧ ∀ (x48 : Int) (Θ48 : Th) (e48 : NewS Θ Θ48 x48 (vv Θ l1)) (n48 : nt Θ ≤ x48), Q x48 Θ48))) : W2_X24_unquoted_29 ω d G l0 l1 l2 g Θ Q := sorry
set_option maxHeartbeats 4000000 in
theorem s2_X24_unquoted_65 {ω : AO} {d G : Nat} {l0 l1 l2 : Int} {g : Nat} {Θ : Th} {Q : Int → Th → Prop} (hB : (1 ≤ d) ∧ (kd Θ l0 = 2) ∧ (2 ≤ d) ∧ (g ≤ G) ∧ ∀ (x67 : Int) (e67 : x67 = len (vv Θ l0)) (r67 : -2147483648 ≤ x67 ∧ x67 < 2147483648), (-2147483648 ≤ l2 ∧ l2 < 2147483648) ∧ (∀ (c70 : x67 ≤ l2), W2_X24_unquoted_29 ω d G l0 l1 ((l2 + 1)) (g) Θ Q) ∧ (∀ (c70 : l2 < x67), (0 ≤ l2 ∧ l2 < len (vv Θ l0)) ∧ (5 ≤ d) ∧ ∀ (x76 : Int) (e76 : x76 = gt (vv Θ l0) l2) (r76 : 0 ≤ x76 ∧ x76 < 65536), (kd Θ l1 = 1) ∧ (¬ fz Θ l1) ∧ (bC (cp Θ l1) (len (vv Θ l1) + 1) ≤ 20000000) ∧ (9 ≤ d) ∧ (g + (bK (bC (cp Θ l1) (len (vv Θ l1) + 1)) (if x76 ≤ 255 then cx Θ l1 else 1) - bK (cp Θ l1) (cx Θ l1)).toNat ≤ G) ∧ ∀ (Θ79 : Th) (t79 : Θ79 = uq Θ l1 (1, vv Θ l1 ++ [x76], bC (cp Θ l1) (len (vv Θ l1) + 1), if x76 ≤ 255 then cx Θ l1 else 1)), W2_X24_unquoted_29 ω d G l0 l1 ((l2 + 1)) (g + (bK (bC (cp Θ l1) (len (vv Θ l1) + 1)) (if x76 ≤ 255 then cx Θ l1 else 1) - bK (cp Θ l1) (cx Θ l1)).toNat) Θ79 Q)) : W2_X24_unquoted_65 ω d G l0 l1 l2 g Θ Q := sorry
def W2_X24_find_2 (ω : AO) (d G : Nat) (l0 l1 l2 : Int) (g : Nat) (Θ : Th) (Q : Int → Th → Prop) : Prop := Hid (SJ2 ω yX24_find cX24_find 3 (some (.object "java/lang/String")) d G (fun Sz Θz => (eA Sz (q2 ω Θz Q))) 2 [(2, l0), (2, l1), (0, l2)] [] g Θ)
set_option maxHeartbeats 4000000 in
theorem s2_X24_find {ω : AO} {d G : Nat} {l0 l1 : Int} {Θ : Th} {Q : Int → Th → Prop} (hB : W2_X24_find_2 ω d G l0 l1 0 (0) Θ Q) : w2_X24_find ω d G l0 l1 Θ Q := sorry
set_option maxHeartbeats 4000000 in
theorem s2_X24_find_2 {ω : AO} {d G : Nat} {l0 l1 l2 : Int} {g : Nat} {Θ : Th} {Q : Int → Th → Prop} (hB : (kd Θ l0 = 37) ∧ ∀ (v4 : Int) (e4 : v4 = gt (vv Θ l0) 1) (r4 : -1 ≤ v4), (1 ≤ d) ∧ (kd Θ v4 = 3) ∧ (g ≤ G) ∧ ∀ (x7 : Int) (e7 : x7 = len (vv Θ v4)) (r7 : -2147483648 ≤ x7 ∧ x7 < 2147483648), (-2147483648 ≤ l2 ∧ l2 < 2147483648) ∧ (∀ (c10 : x7 ≤ l2), (-1 ≤ (-1)) ∧ Q (-1) Θ) ∧ (∀ (c10 : l2 < x7), ∀ (v14 : Int) (e14 : v14 = gt (vv Θ l0) 1) (r14 : -1 ≤ v14), (kd Θ v14 = 3) ∧ (0 ≤ l2 ∧ l2 < len (vv Θ v14)) ∧ (3 ≤ d) ∧ ∀ (x18 : Int) (e18 : x18 = gt (vv Θ v14) l2) (r18 : -1 ≤ x18), (x18 < 0 ∨ kd Θ x18 ∈ [36]) ∧ (kd Θ x18 = 36) ∧ ∃ G24 : Nat, (g + G24 ≤ G) ∧ w2_X23_name ω (d - 1) G24 x18 Θ (fun x24 Θ24 => ∀ (L24 : Le Θ Θ24) (r24 : -1 ≤ x24), (kd Θ24 x24 = 2) ∧ (kd Θ24 l1 = 2) ∧ (2 ≤ d) ∧ (g + G24 ≤ G) ∧ ∀ (x28 : Int) (e28 : x28 = if vv Θ24 x24 = vv Θ24 l1 then 1 else 0) (r28 : x28 = 0 ∨ x28 = 1), (∀ (c31 : x28 = 0), W2_X24_find_2 ω d G l0 l1 ((l2 + 1)) (g + G24) Θ24 Q) ∧ (∀ (c31 : ¬ x28 = 0), ∀ (v35 : Int) (e35 : v35 = gt (vv Θ24 l0) 1) (r35 : -1 ≤ v35), (kd Θ24 v35 = 3) ∧ (0 ≤ l2 ∧ l2 < len (vv Θ24 v35)) ∧ ∀ (x39 : Int) (e39 : x39 = gt (vv Θ24 v35) l2) (r39 : -1 ≤ x39), (x39 < 0 ∨ kd Θ24 x39 ∈ [36]) ∧ (kd Θ24 x39 = 36) ∧ ∃ G45 : Nat, (g + G24 + G45 ≤ G) ∧ w2_X23_value ω (d - 1) G45 x39 Θ24 (fun x45 Θ45 => ∀ (L45 : Le Θ24 Θ45) (r45 : -1 ≤ x45), (g + G24 + G45 ≤ G) ∧ (-1 ≤ x45) ∧ Q x45 Θ45))))) : W2_X24_find_2 ω d G l0 l1 l2 g Θ Q := sorry
def W2_X24_parameter_67 (ω : AO) (d G : Nat) (g : Nat) (Θ : Th) (Q : Th → Prop) : Prop := Hid (SJ2 ω yX24_parameter cX24_parameter 4 none d G (fun Sz Θz => (eU Sz (q2U ω Θz Q))) 67 [vN, vN, vN, vN] [] g Θ)
def W2_X24_parameter_38 (ω : AO) (d G : Nat) (l0 l1 l2 l3 : Int) (g : Nat) (Θ : Th) (Q : Th → Prop) : Prop := Hid (SJ2 ω yX24_parameter cX24_parameter 4 none d G (fun Sz Θz => (eU Sz (q2U ω Θz Q))) 38 [(2, l0), (2, l1), (0, l2), (2, l3)] [] g Θ)
set_option maxHeartbeats 4000000 in
theorem s2_X24_parameter {ω : AO} {d G : Nat} {l0 l1 : Int} {Θ : Th} {Q : Th → Prop} (hB : (1 ≤ d) ∧ ∃ G4 : Nat, (0 + G4 ≤ G) ∧ w2_X24_outside ω (d - 1) G4 l1 0 61 Θ (fun x4 Θ4 => ∀ (L4 : Le Θ Θ4) (r4 : -2147483648 ≤ x4 ∧ x4 < 2147483648), (kd Θ4 l1 = 2) ∧ (2 ≤ d) ∧ (0 + G4 ≤ G) ∧ ∀ (x10 : Int) (e10 : x10 = len (vv Θ4 l1)) (r10 : -2147483648 ≤ x10 ∧ x10 < 2147483648), (∀ (c13 : ¬ x4 = x10), (0 ≤ (0 : Int) ∧ (0 : Int) ≤ x4 ∧ x4 ≤ len (vv Θ4 l1)) ∧ ((0 : Int) < x4 ∨ wide (vv Θ4 l1) = 0 ∨ vv Θ4 l1 = []) ∧ (7 ≤ d) ∧ (0 + G4 + (x4 - (0 : Int) + 5).toNat ≤ G) ∧ ∀ (x20 : Int) (Θ20 : Th) (e20 : NewS Θ4 Θ20 x20 (sub (vv Θ4 l1) (0 : Int) x4)), (8 ≤ d) ∧ (0 + G4 + (x4 - (0 : Int) + 5).toNat + (len (vv Θ20 x20) + 5).toNat ≤ G) ∧ ∀ (x23 : Int) (Θ23 : Th) (e23 : NewS Θ20 Θ23 x23 (trmL (vv Θ20 x20))), (len (vv Θ23 x23) ≤ 1000000) ∧ (10 ≤ d) ∧ (0 + G4 + (x4 - (0 : Int) + 5).toNat + (len (vv Θ20 x20) + 5).toNat + (5 * len (vv Θ23 x23) + 30).toNat ≤ G) ∧ ∀ (x26 : Int) (Θ26 : Th) (e26 : NewS Θ23 Θ26 x26 ((vv Θ23 x23).map lowB)), (kd Θ26 l0 = 37) ∧ ∃ G32 : Nat, (0 + G4 + (x4 - (0 : Int) + 5).toNat + (len (vv Θ20 x20) + 5).toNat + (5 * len (vv Θ23 x23) + 30).toNat + G32 ≤ G) ∧ w2_X24_find ω (d - 1) G32 l0 x26 Θ26 (fun x32 Θ32 => ∀ (L32 : Le Θ26 Θ32) (r32 : -1 ≤ x32), (∀ (c35 : 0 ≤ x32), W2_X24_parameter_67 ω d G  (0 + G4 + (x4 - (0 : Int) + 5).toNat + (len (vv Θ20 x20) + 5).toNat + (5 * len (vv Θ23 x23) + 30).toNat + G32) Θ32 Q) ∧ (∀ (c35 : x32 < 0), W2_X24_parameter_38 ω d G l0 l1 x4 x26 (0 + G4 + (x4 - (0 : Int) + 5).toNat + (len (vv Θ20 x20) + 5).toNat + (5 * len (vv Θ23 x23) + 30).toNat + G32) Θ32 Q))) ∧ (∀ (c13 : x4 = x10), Q Θ4))) : w2_X24_parameter ω d G l0 l1 Θ Q := sorry
set_option maxHeartbeats 4000000 in
theorem s2_X24_parameter_67 {ω : AO} {d G : Nat} {g : Nat} {Θ : Th} {Q : Th → Prop} (hB : (g ≤ G) ∧ Q Θ) : W2_X24_parameter_67 ω d G  g Θ Q := sorry
set_option maxHeartbeats 4000000 in
theorem s2_X24_parameter_38 {ω : AO} {d G : Nat} {l0 l1 l2 l3 : Int} {g : Nat} {Θ : Th} {Q : Th → Prop} (hB : (kd Θ l0 = 37) ∧ ∀ (v39 : Int) (e39 : v39 = gt (vv Θ l0) 1) (r39 : -1 ≤ v39), (g + 1 ≤ G) ∧ ∀ (v42 : Int) (Θ42 : Th) (u42 : nt Θ ≤ v42 ∧ 0 ≤ v42) (b42 : Bl Θ) (t42 : Θ42 = nu Θ v42 (36, [-1, -1], 0, 0)), (1 ≤ d) ∧ (kd Θ42 l1 = 2) ∧ (0 ≤ (l2 + 1) ∧ (l2 + 1) ≤ len (vv Θ42 l1)) ∧ ((l2 + 1) < len (vv Θ42 l1) ∨ wide (vv Θ42 l1) = 0 ∨ vv Θ42 l1 = []) ∧ (8 ≤ d) ∧ (g + 1 + (len (vv Θ42 l1) - (l2 + 1) + 5).toNat ≤ G) ∧ ∀ (x51 : Int) (Θ51 : Th) (e51 : NewS Θ42 Θ51 x51 (sub (vv Θ42 l1) (l2 + 1) (len (vv Θ42 l1)))), (g + 1 + (len (vv Θ42 l1) - (l2 + 1) + 5).toNat + (len (vv Θ51 x51) + 5).toNat ≤ G) ∧ ∀ (x54 : Int) (Θ54 : Th) (e54 : NewS Θ51 Θ54 x54 (trmL (vv Θ51 x51))), ∃ G57 : Nat, (g + 1 + (len (vv Θ42 l1) - (l2 + 1) + 5).toNat + (len (vv Θ51 x51) + 5).toNat + G57 ≤ G) ∧ w2_X24_unquoted ω (d - 1) G57 x54 Θ54 (fun x57 Θ57 => ∀ (L57 : Le Θ54 Θ57) (r57 : -1 ≤ x57), ∃ G60 : Nat, (g + 1 + (len (vv Θ42 l1) - (l2 + 1) + 5).toNat + (len (vv Θ51 x51) + 5).toNat + G57 + G60 ≤ G) ∧ w2_X23_init ω (d - 1) G60 v42 l3 x57 Θ57 (fun Θ60 => ∀ (L60 : Le Θ57 Θ60), (kd Θ60 v39 = 3) ∧ (¬ fz Θ60 v39) ∧ (rf Θ60 v42) ∧ (adC (cp Θ60 v39) (len (vv Θ60 v39)) ≤ 60000000) ∧ (7 ≤ d) ∧ (g + 1 + (len (vv Θ42 l1) - (l2 + 1) + 5).toNat + (len (vv Θ51 x51) + 5).toNat + G57 + G60 + (adC (cp Θ60 v39) (len (vv Θ60 v39)) - cp Θ60 v39).toNat ≤ G) ∧ ∀ (k63 : Int) (Θ63 : Th) (t63 : Θ63 = uq Θ60 v39 (3, vv Θ60 v39 ++ [v42], adC (cp Θ60 v39) (len (vv Θ60 v39)), k63)), W2_X24_parameter_67 ω d G  (g + 1 + (len (vv Θ42 l1) - (l2 + 1) + 5).toNat + (len (vv Θ51 x51) + 5).toNat + G57 + G60 + (adC (cp Θ60 v39) (len (vv Θ60 v39)) - cp Θ60 v39).toNat) Θ63 Q))) : W2_X24_parameter_38 ω d G l0 l1 l2 l3 g Θ Q := sorry
def W2_X24_init_25 (ω : AO) (d G : Nat) (l0 l1 l2 l3 : Int) (g : Nat) (Θ : Th) (Q : Th → Prop) : Prop := Hid (SJ2 ω yX24_init cX24_init 6 none d G (fun Sz Θz => (eU Sz (q2U ω Θz Q))) 25 [(2, l0), (2, l1), (0, l2), (0, l3), vN, vN] [] g Θ)
def W2_X24_init_73 (ω : AO) (d G : Nat) (l0 l1 l4 : Int) (g : Nat) (Θ : Th) (Q : Th → Prop) : Prop := Hid (SJ2 ω yX24_init cX24_init 6 none d G (fun Sz Θz => (eU Sz (q2U ω Θz Q))) 73 [(2, l0), (2, l1), vN, vN, (0, l4), vN] [] g Θ)
set_option maxHeartbeats 4000000 in
theorem s2_X24_init {ω : AO} {d G : Nat} {l0 l1 : Int} {Θ : Th} {Q : Th → Prop} (hB : (1 ≤ d) ∧ (0 ≤ l0) ∧ ∀ (v5 : Int) (h5 : Str Θ v5 []), (kd Θ l0 = 37) ∧ (¬ fz Θ l0) ∧ (-1 ≤ v5) ∧ ∀ (Θ7 : Th) (t7 : Θ7 = pf Θ l0 0 v5), (0 + 1 ≤ G) ∧ ∀ (v11 : Int) (Θ11 : Th) (u11 : nt Θ7 ≤ v11 ∧ 0 ≤ v11) (b11 : Bl Θ7) (t11 : Θ11 = nu Θ7 v11 (203, [], 0, 0)), (4 ≤ d) ∧ ∀ (k15 : Int) (Θ15 : Th) (t15 : Θ15 = uq Θ11 v11 (3, [], 0, k15)), (¬ fz Θ15 l0) ∧ ∀ (Θ18 : Th) (t18 : Θ18 = pf Θ15 l0 1 v11), W2_X24_init_25 ω d G l0 l1 0 1 (0 + 1) Θ18 Q) : w2_X24_init ω d G l0 l1 Θ Q := sorry
set_option maxHeartbeats 4000000 in
theorem s2_X24_init_25 {ω : AO} {d G : Nat} {l0 l1 l2 l3 : Int} {g : Nat} {Θ : Th} {Q : Th → Prop} (hB : (1 ≤ d) ∧ (kd Θ l1 = 2) ∧ (2 ≤ d) ∧ (g ≤ G) ∧ ∀ (x27 : Int) (e27 : x27 = len (vv Θ l1)) (r27 : -2147483648 ≤ x27 ∧ x27 < 2147483648), (-2147483648 ≤ l2 ∧ l2 < 2147483648) ∧ (∀ (c30 : x27 < l2), Q Θ) ∧ (∀ (c30 : l2 ≤ x27), ∃ G37 : Nat, (g + G37 ≤ G) ∧ w2_X24_outside ω (d - 1) G37 l1 l2 59 Θ (fun x37 Θ37 => ∀ (L37 : Le Θ Θ37) (r37 : -2147483648 ≤ x37 ∧ x37 < 2147483648), (0 ≤ l2 ∧ l2 ≤ x37 ∧ x37 ≤ len (vv Θ37 l1)) ∧ (l2 < x37 ∨ wide (vv Θ37 l1) = 0 ∨ vv Θ37 l1 = []) ∧ (7 ≤ d) ∧ (g + G37 + (x37 - l2 + 5).toNat ≤ G) ∧ ∀ (x46 : Int) (Θ46 : Th) (e46 : NewS Θ37 Θ46 x46 (sub (vv Θ37 l1) l2 x37)), (8 ≤ d) ∧ (g + G37 + (x37 - l2 + 5).toNat + (len (vv Θ46 x46) + 5).toNat ≤ G) ∧ ∀ (x49 : Int) (Θ49 : Th) (e49 : NewS Θ46 Θ49 x49 (trmL (vv Θ46 x46))), (-2147483648 ≤ l3 ∧ l3 < 2147483648) ∧ (∀ (c55 : l3 = 0), (kd Θ49 l0 = 37) ∧ ∃ G70 : Nat, (g + G37 + (x37 - l2 + 5).toNat + (len (vv Θ46 x46) + 5).toNat + G70 ≤ G) ∧ w2_X24_parameter ω (d - 1) G70 l0 x49 Θ49 (fun Θ70 => ∀ (L70 : Le Θ49 Θ70), W2_X24_init_73 ω d G l0 l1 x37 (g + G37 + (x37 - l2 + 5).toNat + (len (vv Θ46 x46) + 5).toNat + G70) Θ70 Q)) ∧ (∀ (c55 : ¬ l3 = 0), (kd Θ49 l0 = 37) ∧ (¬ fz Θ49 l0) ∧ ∀ (Θ61 : Th) (t61 : Θ61 = pf Θ49 l0 0 x49), W2_X24_init_73 ω d G l0 l1 x37 (g + G37 + (x37 - l2 + 5).toNat + (len (vv Θ46 x46) + 5).toNat) Θ61 Q)))) : W2_X24_init_25 ω d G l0 l1 l2 l3 g Θ Q := sorry
set_option maxHeartbeats 4000000 in
theorem s2_X24_init_73 {ω : AO} {d G : Nat} {l0 l1 l4 : Int} {g : Nat} {Θ : Th} {Q : Th → Prop} (hB : W2_X24_init_25 ω d G l0 l1 ((l4 + 1)) 0 (g) Θ Q) : W2_X24_init_73 ω d G l0 l1 l4 g Θ Q := sorry
/-! 66.ab.lean.txt -/
/-! values with parameters: pieces -/
set_option maxRecDepth 100000
/-- where a byte stands outside of quotation marks -/
def ouG (l : List Int) (c q k : Int) : Int :=
  if h : 0 ≤ k ∧ k < len l ∧ (q ≠ 0 ∨ gt l k ≠ c) then
    if gt l k = 34 then ouG l c (if q = 0 then 1 else 0) (k + 1) else if q ≠ 0 ∧ gt l k = 92 then ouG l c q (k + 2) else ouG l c q (k + 1)
  else k
termination_by (len l - k).toNat
def ouF (l : List Int) (f c : Int) : Int := if ouG l c 0 f < len l then ouG l c 0 f else len l
theorem ouG_ge {l : List Int} {c : Int} : ∀ (N : Nat) (q k : Int), (len l - k).toNat = N → k ≤ ouG l c q k := sorry
theorem ouF_in {l : List Int} {f c : Int} (h : 0 ≤ f ∧ f ≤ len l) : f ≤ ouF l f c ∧ ouF l f c ≤ len l := sorry
/-- a text without its quotation marks -/
def uqG (l : List Int) (k : Int) : Option (List Int) :=
  if h : 0 ≤ k ∧ k < len l then
    if gt l k = 34 then some [] else (match uqG l (esc l k + 1) with | some t => some (pc1 l (esc l k) ++ t) | none => none)
  else none
termination_by (len l - k).toNat
decreasing_by
  have := esc_in (l := l) (k := k)
  omega
def uqF (l : List Int) : List Int := if l = [] ∨ gt l 0 ≠ 34 then l else (match uqG l 1 with | some t => t | none => l)
def opA (m : List Int) : Option (List Int) → Option (List Int)
  | some t => some (m ++ t)
  | none => none
theorem opA_nil (o : Option (List Int)) : opA [] o = o := by cases o <;> rfl
theorem opA_app (m n : List Int) (o : Option (List Int)) : opA m (opA n o) = opA (m ++ n) o := sorry
/-- a name with a value -/
def PrO (Θ : Th) (r : Int) (v : List Int × List Int) : Prop := ∃ a b, Fx Θ r (36, [a, b], 0, 0) ∧ Str Θ a v.1 ∧ Str Θ b v.2
def fdF : List (List Int × List Int) → List Int → Option (List Int)
  | [], _ => none
  | p :: r, n => if p.1 = n then some p.2 else fdF r n
section VAX
variable {ω : AO} {d G : Nat} {Θ Θ1 : Th} {a s p r t f c e x y k : Int} {l n : List Int} {rs : List Int} {ps : List (List Int × List Int)} {v : List Int × List Int}
theorem PrO.le (h : PrO Θ r v) (L : Le Θ Θ1) : PrO Θ1 r v := sorry
theorem u_X24_outside {Q : Int → Th → Prop} (hd : 5 ≤ d) (hs : Str Θ s l) (hf : 0 ≤ f ∧ f ≤ len l) (hn : len l ≤ 1000000) (hx : inI x) (hQ : Q (ouF l f x) Θ) : w2_X24_outside ω d G s f x Θ Q := sorry
theorem u_X24_unquoted {Q : Int → Th → Prop} (hd : 9 ≤ d) (hs : Str Θ s l) (hn : len l ≤ 1000000) (hG : 5 * len l + 30 ≤ (G : Int)) (hQ : ∀ r Θ', NewS Θ Θ' r (uqF l) → Q r Θ') : w2_X24_unquoted ω d G s Θ Q := sorry
theorem u_X23_init {u w : Int} {Q : Th → Prop} (hd : 1 ≤ d) (h : xo Θ r = (36, [u, w], 0, 0)) (hf : ¬ fz Θ r) (hx : 0 < kd Θ x) (hy : 0 < kd Θ y) (hQ : ∀ Θ2, GrX (· = r) Θ Θ2 → xo Θ2 r = (36, [x, y], 0, 0) → Q (fr Θ2 (fun b => b = r))) : w2_X23_init ω d G r x y Θ Q := sorry
theorem u_X24_find {Q : Int → Th → Prop} (hd : 4 ≤ d) (h : xo Θ a = (37, [s, p], 0, 0)) (hp : xo Θ p = (3, rs, c, e)) (hw : all2 (PrO Θ) rs ps) (hl : len rs ≤ 1000000) (ht : Str Θ t n) (hQ1 : ∀ r v, fdF ps n = some v → Str Θ r v → 0 ≤ r → Q r Θ) (hQ0 : fdF ps n = none → Q (-1) Θ) : w2_X24_find ω d G a t Θ Q := sorry
end VAX

/-! 66.ac.lean.txt -/
/-! values with parameters: all -/
set_option maxRecDepth 100000
theorem trmL_in {l : List Int} : 0 ≤ scn blB l 0 ∧ scn blB l 0 ≤ bscn blB l (scn blB l 0) (len l) ∧ bscn blB l (scn blB l 0) (len l) ≤ len l := sorry
theorem trmL_len {l : List Int} : len (trmL l) ≤ len l := sorry
theorem byt_trm {l : List Int} (h : byt l) : byt (trmL l) := byt_sub h
def paN (it : List Int) : List Int := (trmL (sub it 0 (ouF it 0 61))).map lowB
def paV (it : List Int) : List Int := uqF (trmL (sub it (ouF it 0 61 + 1) (len it)))
/-- one more parameter -/
def paF (ps : List (List Int × List Int)) (it : List Int) : List (List Int × List Int) :=
  if ouF it 0 61 = len it then ps else if (fdF ps (paN it)).isSome = true then ps else ps ++ [(paN it, paV it)]
section VPX
variable {ω : AO} {d G : Nat} {Θ Θ1 : Th} {a s p q r c e : Int} {l it : List Int} {rs : List Int} {ps : List (List Int × List Int)}
theorem u_X24_parameter {Q : Th → Prop} (hd : 12 ≤ d) (h : xo Θ a = (37, [s, p], 0, 0)) (hp : xo Θ p = (3, rs, c, e)) (hfp : ¬ fz Θ p) (hw : all2 (PrO Θ) rs ps) (hq : Str Θ q it) (hb : byt it) (hl : len it ≤ 100000) (hlr : len rs ≤ 1000000) (hc : c ≤ adC c (len rs) ∧ adC c (len rs) ≤ 60000000)
    (hG : 8 * len it + 95 ≤ (G : Int)) (hGs : paF ps it ≠ ps → 8 * len it + 95 + (adC c (len rs) - c) ≤ (G : Int)) (hQ : ∀ Θ' rs' c' e', GrX (· = p) Θ Θ' → xo Θ' p = (3, rs', c', e') → ¬ fz Θ' p → all2 (PrO Θ') rs' (paF ps it) → ((rs' = rs ∧ c' = c ∧ paF ps it = ps) ∨ ∃ r, rs' = rs ++ [r] ∧ c' = adC c (len rs) ∧ paF ps it ≠ ps) → Q Θ') : w2_X24_parameter ω d G a q Θ Q := sorry
/-- the items of a value -/
def vaG (l : List Int) (k : Int) : List (List Int) := if h : 0 ≤ k ∧ k ≤ len l then trmL (sub l k (ouF l k 59)) :: vaG l (max k (ouF l k 59) + 1) else []
termination_by (len l + 1 - k).toNat
def vaP (l : List Int) : List (List Int × List Int) := (vaG l (max 0 (ouF l 0 59) + 1)).foldl paF []
def vaH (l : List Int) : List Int := trmL (sub l 0 (ouF l 0 59))
/-- a value: what stands first, its parameters -/
def VaO (Θ : Th) (a : Int) (f : List Int) (ps : List (List Int × List Int)) : Prop := ∃ s p rs c e, Fx Θ a (37, [s, p], 0, 0) ∧ Str Θ s f ∧ Fx Θ p (3, rs, c, e) ∧ all2 (PrO Θ) rs ps
theorem VaO.le {f : List Int} (h : VaO Θ a f ps) (L : Le Θ Θ1) : VaO Θ1 a f ps := sorry
theorem u_X24_init {Q : Th → Prop} (hd : 13 ≤ d) (h : xo Θ a = (37, [-1, -1], 0, 0)) (hf : ¬ fz Θ a) (hs : Str Θ s l) (hb : byt l) (hl : len l ≤ 90000) (hG : 110 * len l + 140 ≤ (G : Int))
    (hQ : ∀ Θ2, GrX (· = a) Θ Θ2 → VaO (fr Θ2 (fun b => b = a ∨ kd Θ b = 0)) a (vaH l) (vaP l) → Q (fr Θ2 (fun b => b = a ∨ kd Θ b = 0))) : w2_X24_init ω d G a s Θ Q := sorry
end VPX

