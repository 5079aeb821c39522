/-! 96.aa.lean.txt -/
/-! the twin: states that agree but for some places; sixes, hex, a byte put, base64 -/
set_option maxRecDepth 100000
/-- τ' is τ but for the numbers sc and the arrays ar -/
def Fr (τ τ' : TT) (sc ar : List Int) : Prop := (∀ k, k ∉ sc → τ'.1 k = τ.1 k) ∧ ∀ i, i ∉ ar → τ'.2 i = τ.2 i
section FR
variable {τ τ' τ'' : TT} {sc ar sc' ar' : List Int}
theorem Fr.rf : Fr τ τ sc ar := ⟨fun _ _ => rfl, fun _ _ => rfl⟩
theorem Fr.tr (h : Fr τ τ' sc ar) (h2 : Fr τ' τ'' sc' ar') (hs : (sc'.all fun k => sc.contains k) = true := by rfl) (ha : (ar'.all fun k => ar.contains k) = true := by rfl) : Fr τ τ'' sc ar := sorry
theorem Fr.s (h : Fr τ τ' sc ar) (k : Int) (hk : sc.contains k = false := by rfl) : τ'.1 k = τ.1 k := sorry
theorem Fr.a (h : Fr τ τ' sc ar) (k : Int) (hk : ar.contains k = false := by rfl) : τ'.2 k = τ.2 k := sorry
theorem Fr.ps (h : Fr τ τ' sc ar) (k x : Int) (hk : sc.contains k = true := by rfl) : Fr τ (τ'.s k x) sc ar := sorry
theorem Fr.pa (h : Fr τ τ' sc ar) (i j x : Int) (hk : ar.contains i = true := by rfl) : Fr τ (τ'.a i j x) sc ar := sorry
end FR
theorem t_cSixBits {c : Int} {τ : TT} {Q : Int → TT → Prop} (h : -2147480000 ≤ c ∧ c < 2147480000) (hQ : Q (six c) τ) : w_cSixBits c τ Q := sorry
theorem t_cHex {c : Int} {τ : TT} {Q : Int → TT → Prop} (h : -2147480000 ≤ c ∧ c < 2147480000) (hQ : Q (hexv c) τ) : w_cHex c τ Q := sorry
theorem t_cPut {b : Int} {τ : TT} {Q : TT → Prop} (h0 : 0 ≤ τ.1 153) (h1 : τ.1 153 < 8500)
    (hQ : ∀ τ', Fr τ τ' [153] [102] → τ'.1 153 = τ.1 153 + 1 → by8 (τ'.2 102) 0 (τ.1 153 + 1) = by8 (τ.2 102) 0 (τ.1 153) ++ [b % 256] → Q τ') : w_cPut b τ Q := sorry
theorem t_cUnbase {f t : Int} {τ : TT} {Q : TT → Prop} (h0 : 0 ≤ f) (h1 : f ≤ t) (h2 : t ≤ 4200) (h3 : 0 ≤ τ.1 153) (h4 : τ.1 153 + (t - f) ≤ 8500)
    (hQ : ∀ τ', Fr τ τ' [153, 156, 157] [102] → by8 (τ'.2 102) 0 (τ'.1 153) = by8 (τ.2 102) 0 (τ.1 153) ++ unbase 0 0 (by8 (τ.2 100) f (t - f)) → 0 ≤ τ'.1 153 → τ'.1 153 ≤ τ.1 153 + (t - f) → Q τ') : w_cUnbase f t τ Q := sorry
/-! 96.ab.lean.txt -/
/-! the twin: its tape as a row of bytes; codes of quoted-printable, lines -/
set_option maxRecDepth 100000
def TAP (τ : TT) (l : List Int) : Prop := l = by8 (τ.2 100) 0 (τ.1 148) ∧ 0 ≤ τ.1 148 ∧ τ.1 148 ≤ 4200
theorem by8_gt {f : Int → Int} {n k : Int} (h0 : 0 ≤ k) (h1 : k < n) : gt (by8 f 0 n) k = f k % 256 := sorry
theorem TAP.ln {τ : TT} {l : List Int} (h : TAP τ l) : len l = τ.1 148 := sorry
theorem TAP.rd {τ : TT} {l : List Int} (h : TAP τ l) {k : Int} (hk : 0 ≤ k ∧ k < len l) : gt l k = τ.2 100 k % 256 := sorry
theorem TAP.fr {τ τ' : TT} {l : List Int} (h : TAP τ l) (h1 : τ'.1 148 = τ.1 148) (h2 : τ'.2 100 = τ.2 100) : TAP τ' l := by
  unfold TAP
  rw [h1, h2]
  exact h
theorem hexv_hx (c : Int) : hexv c = hxF c := sorry
def qtdF (l : List Int) (k t : Int) : Int := if k + 2 < t then hbF l (k + 1) else -1
theorem t_cTold {k t : Int} {l : List Int} {τ : TT} {Q : Int → TT → Prop} (h : TAP τ l) (hk : 0 ≤ k ∧ k ≤ 4200) (ht : 0 ≤ t ∧ t ≤ len l) (hQ : Q (qtdF l k t) τ) : w_cTold k t τ Q := sorry
theorem t_cLineEnd {k : Int} {l : List Int} {τ : TT} {Q : Int → TT → Prop} (h : TAP τ l) (hk : 0 ≤ k ∧ k ≤ len l) (hQ : Q (lnE l k) τ) : w_cLineEnd k τ Q := sorry
theorem t_cLineStop {k : Int} {l : List Int} {τ : TT} {Q : Int → TT → Prop} (h : TAP τ l) (hk : 0 ≤ k ∧ k ≤ len l) (hQ : Q (lnC l k) τ) : w_cLineStop k (lnE l k) τ Q := sorry
/-! 96.ac.lean.txt -/
/-! the twin: quoted-printable, the whole tape -/
set_option maxRecDepth 100000
def OUTP (τ : TT) (o : List Int) : Prop := o = by8 (τ.2 102) 0 (τ.1 153) ∧ 0 ≤ τ.1 153
theorem OUTP.ln {τ : TT} {o : List Int} (h : OUTP τ o) : len o = τ.1 153 := sorry
theorem t_putO {b : Int} {o : List Int} {τ : TT} {Q : TT → Prop} (h : OUTP τ o) (hl : len o < 8500) (hQ : ∀ τ', Fr τ τ' [153] [102] → OUTP τ' (o ++ [b % 256]) → Q τ') : w_cPut b τ Q := sorry
theorem len_ltp {p r R : List Int} {x : Int} (h : p ++ x :: r = R) (hR : len R ≤ 8500) : len p < 8500 := sorry
theorem t_cUnquote {l o : List Int} {τ : TT} {Q : TT → Prop} (h : TAP τ l) (ho : OUTP τ o) (hb : len o + 2 * len l + 2 ≤ 8500) (hQ : ∀ τ', Fr τ τ' [153] [102] → OUTP τ' (o ++ qpA l 0) → Q τ') : w_cUnquote τ Q := sorry
/-! 96.ad.lean.txt -/
/-! the twin: uuencoded lines -/
set_option maxRecDepth 100000
theorem orI_add {a y : Int} (k : Nat) {m : Int} (hm : ((2 ^ k : Nat) : Int) = m) (h0 : 0 ≤ a) (hy : 0 ≤ y ∧ y < m) (hs : a * m + y < 2147483648) : orI (a * m) y = a * m + y := sorry
theorem uuB_in (l : List Int) (t p : Int) : 0 ≤ uuB l t p ∧ uuB l t p < 64 := sorry
theorem orI_4 {A B C D : Int} (hA : 0 ≤ A ∧ A < 64) (hB : 0 ≤ B ∧ B < 64) (hC : 0 ≤ C ∧ C < 64) (hD : 0 ≤ D ∧ D < 64) :
    orI (orI (orI (orI (0 * 64) A * 64) B * 64) C * 64) D = orI (orI (orI (A * 262144) (B * 4096)) (C * 64)) D := sorry
theorem take3 {a b c i n : Int} : [a, b, c].take (n - i).toNat = (if i < n then [a] else []) ++ ((if i + 1 < n then [b] else []) ++ (if i + 1 + 1 < n then [c] else [])) := sorry
theorem uuG_st {l : List Int} {t m p : Int} (h : p < t) : uuG l t m p = [shrI (uuW l t p) 16 % 256, shrI (uuW l t p) 8 % 256, shrI (uuW l t p) 0 % 256].take m.toNat ++ uuG l t (m - 3) (p + 4) := sorry
theorem t_cLess32 {a t : Int} {l : List Int} {τ : TT} {Q : Int → TT → Prop} (h : TAP τ l) (ha : 0 ≤ a ∧ a ≤ 5000) (ht : 0 ≤ t ∧ t ≤ len l) (hQ : Q (uuB l t a) τ) : w_cLess32 a t τ Q := sorry
/-! 96.ae.lean.txt -/
/-! the twin: uuencoded lines: begin and end, a line -/
set_option maxRecDepth 100000
theorem isU_t {l s : List Int} {a e : Int} : isU l a e s = true ↔ len s ≤ e - a ∧ pAt l s a := sorry
theorem pAt_end {l : List Int} {a : Int} : pAt l ENDL a ↔ 0 ≤ a ∧ a + 3 ≤ len l ∧ gt l a = 101 ∧ gt l (a + 1) = 110 ∧ gt l (a + 2) = 100 := sorry
theorem pAt_beg {l : List Int} {a : Int} : pAt l BEG a ↔ 0 ≤ a ∧ a + 6 ≤ len l ∧ gt l a = 98 ∧ gt l (a + 1) = 101 ∧ gt l (a + 2) = 103 ∧ gt l (a + 3) = 105 ∧ gt l (a + 4) = 110 ∧ gt l (a + 5) = 32 := sorry
def uuE (l : List Int) (a e : Int) : Int := if e - a = 3 ∧ isU l a e ENDL = true then 1 else 0
theorem t_cIsEnd {a t : Int} {l : List Int} {τ : TT} {Q : Int → TT → Prop} (h : TAP τ l) (ha : 0 ≤ a ∧ a ≤ t ∧ t ≤ len l) (hQ : Q (uuE l a t) τ) : w_cIsEnd a t τ Q := sorry
theorem t_cIsBegin {a t : Int} {l : List Int} {τ : TT} {Q : Int → TT → Prop} (h : TAP τ l) (ha : 0 ≤ a ∧ a ≤ t ∧ t ≤ len l) (hQ : Q (uuBeg l a t) τ) : w_cIsBegin a t τ Q := sorry
theorem t_cUnhex {a t : Int} {l o : List Int} {τ : TT} {Q : Int → TT → Prop} (h : TAP τ l) (ho : OUTP τ o) (ha : 0 ≤ a ∧ a ≤ t ∧ t ≤ len l) (hb0 : uuStop l a t = false → len (o ++ uuG l t (uuN l a t) (a + 1)) ≤ 8500)
    (hQ0 : uuStop l a t = true → Q 0 τ) (hQ1 : uuStop l a t = false → ∀ τ', Fr τ τ' [153] [102] → OUTP τ' (o ++ uuG l t (uuN l a t) (a + 1)) → Q 1 τ') : w_cUnhex a t τ Q := sorry
/-! 96.af.lean.txt -/
/-! the twin: uuencoded, the whole tape; what was put goes onto the tape -/
set_option maxRecDepth 100000
theorem t_cUnhexAll {l o : List Int} {τ : TT} {Q : TT → Prop} (h : TAP τ l) (ho : OUTP τ o) (hb : len (o ++ uuA l 0 0) ≤ 8500) (hQ : ∀ τ', Fr τ τ' [153] [102] → OUTP τ' (o ++ uuA l 0 0) → Q τ') : w_cUnhexAll τ Q := sorry
/-! 96.ag.lean.txt -/
/-! the twin: what was put goes onto the tape; a character added; units of sixteen bits -/
set_option maxRecDepth 100000
theorem t_cOutToTape {o : List Int} {τ : TT} {Q : TT → Prop} (ho : OUTP τ o) (hl : len o ≤ 4200) (hQ : ∀ τ', Fr τ τ' [148] [100] → TAP τ' o → Q τ') : w_cOutToTape τ Q := sorry
/-- the text read so far -/
def TXD (τ : TT) (m : List Int) : Prop := m = seg (τ.2 101) 0 (τ.1 150) ∧ 0 ≤ τ.1 150
theorem TXD.ln {τ : TT} {o : List Int} (h : TXD τ o) : len o = τ.1 150 := sorry
theorem TXD.fr {τ τ' : TT} {m : List Int} (h : TXD τ m) (h1 : τ'.1 150 = τ.1 150) (h2 : τ'.2 101 = τ.2 101) : TXD τ' m := by
  unfold TXD
  rw [h1, h2]
  exact h
theorem t_cAdd {c : Int} {m : List Int} {τ : TT} {Q : TT → Prop} (h : TXD τ m) (hl : len m < 4200) (hc : -2147483648 ≤ c ∧ c < 2147483648) (hQ : ∀ τ', Fr τ τ' [150] [101] → TXD τ' (m ++ [c]) → Q τ') : w_cAdd c τ Q := sorry
theorem t_cIsHigh {u : Int} {τ : TT} {Q : Int → TT → Prop} (hu : -2147483648 ≤ u ∧ u < 2147483648) (hQ : Q (if 55296 ≤ u ∧ u ≤ 56319 then 1 else 0) τ) : w_cIsHigh u τ Q := sorry
theorem t_cIsLow {u : Int} {τ : TT} {Q : Int → TT → Prop} (hu : -2147483648 ≤ u ∧ u < 2147483648) (hQ : Q (if 56320 ≤ u ∧ u ≤ 57343 then 1 else 0) τ) : w_cIsLow u τ Q := sorry
theorem t_cEndUnits {m : List Int} {τ : TT} {Q : TT → Prop} (h : TXD τ m) (hl : len m < 4200) (hQ : ∀ τ', Fr τ τ' [150, 158] [101] → TXD τ' (m ++ uend (τ.1 158)) → τ'.1 158 = 0 → Q τ') : w_cEndUnits τ Q := sorry
theorem t_cUnit {u : Int} {m : List Int} {τ : TT} {Q : TT → Prop} (h : TXD τ m) (hl : len m + 2 ≤ 4200) (hu : 0 ≤ u ∧ u < 65536) (hp : τ.1 158 = 0 ∨ 55296 ≤ τ.1 158 ∧ τ.1 158 ≤ 56319)
    (hQ : ∀ τ', Fr τ τ' [150, 158] [101] → TXD τ' (m ++ (ust (τ.1 158) u).1) → τ'.1 158 = (ust (τ.1 158) u).2 → Q τ') : w_cUnit u τ Q := sorry
/-! 96.ah.lean.txt -/
/-! the twin: bytes of the source, of the tape; a byte by a charset; units of sixteen bits read -/
set_option maxRecDepth 100000
def SRCD (τ : TT) (s : List Int) : Prop := s = by8 (τ.2 103) 0 (τ.1 154) ∧ 0 ≤ τ.1 154 ∧ τ.1 154 ≤ 4200
theorem SRCD.ln {τ : TT} {l : List Int} (h : SRCD τ l) : len l = τ.1 154 := sorry
theorem SRCD.rd {τ : TT} {l : List Int} (h : SRCD τ l) {k : Int} (hk : 0 ≤ k ∧ k < len l) : gt l k = τ.2 103 k % 256 := sorry
theorem SRCD.fr {τ τ' : TT} {l : List Int} (h : SRCD τ l) (h1 : τ'.1 154 = τ.1 154) (h2 : τ'.2 103 = τ.2 103) : SRCD τ' l := by
  unfold SRCD
  rw [h1, h2]
  exact h
theorem t_cByteOf {k : Int} {s : List Int} {τ : TT} {Q : Int → TT → Prop} (h : SRCD τ s) (hk : 0 ≤ k ∧ k ≤ 10000) (hQ : Q (atI s k) τ) : w_cByteOf k τ Q := sorry
theorem t_cTapeAt {k : Int} {l : List Int} {τ : TT} {Q : Int → TT → Prop} (h : TAP τ l) (hk : 0 ≤ k ∧ k ≤ 10000) (hQ : Q (atI l k) τ) : w_cTapeAt k τ Q := sorry
theorem t_cTapeToSrc {a b : Int} {l : List Int} {τ : TT} {Q : TT → Prop} (h : TAP τ l) (ha : 0 ≤ a ∧ a ≤ b ∧ b ≤ len l) (hQ : ∀ τ', Fr τ τ' [154] [103] → SRCD τ' (by8 (τ.2 100) a (b - a)) → Q τ') : w_cTapeToSrc a b τ Q := sorry
theorem t_cLatin9 {b : Int} {τ : TT} {Q : Int → TT → Prop} (hb : -2147483648 ≤ b ∧ b < 2147483648) (hQ : Q (lat9 b) τ) : w_cLatin9 b τ Q := sorry
/-! 96.ai.lean.txt -/
/-! the twin: a byte by a charset; units of sixteen bits read -/
set_option maxRecDepth 100000
theorem koi_in (n : Nat) (h : n < 32) : 0 ≤ cl_cKoi.getD n 0 ∧ cl_cKoi.getD n 0 < 65536 := sorry
theorem t_cCharOf {cs b : Int} {τ : TT} {Q : Int → TT → Prop} (hcs : 0 ≤ cs ∧ cs < 100) (hb : 0 ≤ b ∧ b < 256) (hQ : Q (chr1 cs b) τ) : w_cCharOf cs b τ Q := sorry
theorem ust_hp (p u : Int) : (ust p u).2 = 0 ∨ 55296 ≤ (ust p u).2 ∧ (ust p u).2 ≤ 56319 := sorry
theorem t_cReadUnits {f k : Int} {s m : List Int} {τ : TT} {Q : TT → Prop} (h : SRCD τ s) (ht : TXD τ m) (hf : f = 0 ∨ f = 1) (hk : 0 ≤ k ∧ k ≤ len s) (hk1 : τ.1 155 = k)
    (hb : len (m ++ (units 0 (pairUp (decide (f = 1)) (s.drop k.toNat)) ++ odd1 (s.drop k.toNat))) + 2 ≤ 4200)
    (hQ : ∀ τ', Fr τ τ' [150, 155, 158] [101] → TXD τ' (m ++ (units 0 (pairUp (decide (f = 1)) (s.drop k.toNat)) ++ odd1 (s.drop k.toNat))) → len s ≤ τ'.1 155 → τ'.1 155 ≤ 4300 → Q τ') : w_cReadUnits f τ Q := sorry
/-! 96.aj.lean.txt -/
/-! the twin: a character in UTF-8 -/
set_option maxRecDepth 100000
theorem t_cMayFollow {c b : Int} {τ : TT} {Q : Int → TT → Prop} (hc : 0 ≤ c ∧ c < 256) (hb : -1 ≤ b ∧ b < 256) (hQ : Q (if u8fitB c 0 b = true then 1 else 0) τ) : w_cMayFollow c b τ Q := sorry
theorem t_cTakeUtf8 {k c : Int} {s m : List Int} {τ : TT} {Q : TT → Prop} (h : SRCD τ s) (ht : TXD τ m) (hl : len m < 4200) (hk1 : τ.1 155 = k) (hk : 0 ≤ k ∧ k < len s) (hc : gt s k = c)
    (hQ : ∀ τ' j, Fr τ τ' [150, 155] [101] → TXD τ' (m ++ [(takeU8 c (by8 (τ.2 103) (k + 1) (len s - (k + 1)))).1]) → τ'.1 155 = j → k < j → j ≤ len s → by8 (τ.2 103) j (len s - j) = (takeU8 c (by8 (τ.2 103) (k + 1) (len s - (k + 1)))).2 → Q τ') : w_cTakeUtf8 τ Q := sorry
/-! 96.ak.lean.txt -/
/-! the twin: a source read by UTF-8 or by a charset of one byte each -/
set_option maxRecDepth 100000
theorem by8_dr {f : Int → Int} {n k : Int} (h0 : 0 ≤ k) (h1 : k ≤ n) : (by8 f 0 n).drop k.toNat = by8 f k (n - k) := sorry
theorem len_lt2 {p r R : List Int} {x b : Int} (h : p ++ x :: r = R) (hR : len R ≤ b) : len p < b := sorry
theorem t_rdU8 {s m : List Int} {τ : TT} {Q : TT → Prop} (h : SRCD τ s) (ht : TXD τ m) (h0 : τ.1 155 = 0) (hb : len (m ++ utf8 s) ≤ 4200) (hQ : ∀ τ', Fr τ τ' [150, 155] [101] → TXD τ' (m ++ utf8 s) → Q τ') : W_cReadAll_44 4 τ Q := sorry
theorem t_rdBy {cs : Int} {s m : List Int} {τ : TT} {Q : TT → Prop} (hcs : 0 ≤ cs ∧ cs < 100) (h4 : cs ≠ 4) (h9 : cs ≠ 9) (h : SRCD τ s) (ht : TXD τ m) (h0 : τ.1 155 = 0) (hb : len (m ++ s.map (chr1 cs)) ≤ 4200) (hQ : ∀ τ', Fr τ τ' [150, 155] [101] → TXD τ' (m ++ s.map (chr1 cs)) → Q τ') : W_cReadAll_44 cs τ Q := sorry
/-! 96.al.lean.txt -/
/-! the twin: a source with a mark of order read -/
set_option maxRecDepth 100000
theorem t_cReadMarked {s m : List Int} {τ : TT} {Q : TT → Prop} (h : SRCD τ s) (ht : TXD τ m) (hb : len (m ++ rd16 5 s) + 2 ≤ 4200)
    (hQ : ∀ τ', Fr τ τ' [150, 155, 158] [101] → TXD τ' (m ++ rd16 5 s) → len s ≤ τ'.1 155 → τ'.1 155 ≤ 4300 → Q τ') : w_cReadMarked τ Q := sorry
/-! 96.am.lean.txt -/
/-! the twin: a source read whole, by every charset but UTF-7 -/
set_option maxRecDepth 100000
theorem t_cReadAll {cs : Int} {s m : List Int} {τ : TT} {Q : TT → Prop} (hcs : 0 ≤ cs ∧ cs < 100) (h9 : cs ≠ 9) (h : SRCD τ s) (ht : TXD τ m) (hb : len (m ++ chsF cs s) + 2 ≤ 4200)
    (hQ : ∀ τ', Fr τ τ' [150, 155, 158] [101] → TXD τ' (m ++ chsF cs s) → Q τ') : w_cReadAll cs τ Q := sorry
/-! 96.an.lean.txt -/
/-! the twin: a stretch of the tape read as UTF-8 -/
set_option maxRecDepth 100000
theorem t_cReadPlain {a b : Int} {l m : List Int} {τ : TT} {Q : TT → Prop} (h : TAP τ l) (ht : TXD τ m) (ha : 0 ≤ a ∧ a ≤ b ∧ b ≤ len l) (hb : len (m ++ utf8 (by8 (τ.2 100) a (b - a))) + 2 ≤ 4200)
    (hQ : ∀ τ', Fr τ τ' [150, 154, 155, 158] [101, 103] → TXD τ' (m ++ utf8 (by8 (τ.2 100) a (b - a))) → Q τ') : w_cReadPlain a b τ Q := sorry
/-! 96.ao.lean.txt -/
/-! the twin: UTF-7; a source read whole by every charset -/
set_option maxRecDepth 100000
theorem t_cTakeUtf7 {k : Int} {s m R : List Int} {τ : TT} {Q : TT → Prop} (h : SRCD τ s) (ht : TXD τ m) (hk1 : τ.1 155 = k) (hk : 0 ≤ k ∧ k < len s) (hR : m ++ sv7 s k = R) (hb : len R + 2 ≤ 4200)
    (hQ : ∀ τ' j m', Fr τ τ' [150, 155, 158] [101] → TXD τ' m' → τ'.1 155 = j → k < j → j ≤ len s → m' ++ sv7 s j = R → Q τ') : w_cTakeUtf7 τ Q := sorry
theorem t_rd7 {s m : List Int} {τ : TT} {Q : TT → Prop} (h : SRCD τ s) (ht : TXD τ m) (h0 : τ.1 155 = 0) (hb : len (m ++ sv7 s 0) + 2 ≤ 4200) (hQ : ∀ τ', Fr τ τ' [150, 155, 158] [101] → TXD τ' (m ++ sv7 s 0) → Q τ') : W_cReadAll_44 9 τ Q := sorry
theorem t_cReadAllX {cs : Int} {s m : List Int} {τ : TT} {Q : TT → Prop} (hcs : 0 ≤ cs ∧ cs < 100) (h : SRCD τ s) (ht : TXD τ m) (hb : len (m ++ chsF cs s) + 2 ≤ 4200)
    (hQ : ∀ τ', Fr τ τ' [150, 155, 158] [101] → TXD τ' (m ++ chsF cs s) → Q τ') : w_cReadAll cs τ Q := sorry
/-! 96.ap.lean.txt -/
/-! the twin: names of charsets, packed into two numbers -/
set_option maxRecDepth 100000
def pkR : List Int → Int
  | [] => 0
  | c :: r => pkR r * 256 + c
def pkN (t : List Int) : Int := pkR t.reverse
theorem pkN_s (t : List Int) (c : Int) : pkN (t ++ [c]) = pkN t * 256 + c := by
  unfold pkN
  rw [List.reverse_append]
  rfl
theorem pkR_b : ∀ {t : List Int}, (∀ c, c ∈ t → 0 < c ∧ c < 128) → 0 ≤ pkR t ∧ 2 * pkR t + 1 ≤ 256 ^ t.length := sorry
theorem pkR_inj : ∀ {a b : List Int}, (∀ c, c ∈ a → 0 < c ∧ c < 128) → (∀ c, c ∈ b → 0 < c ∧ c < 128) → pkR a = pkR b → a = b := sorry
theorem pkN_b {t : List Int} (h : ∀ c, c ∈ t → 0 < c ∧ c < 128) (hl : t.length ≤ 7) : 0 ≤ pkN t ∧ pkN t < 36028797018963968 := sorry
theorem pkN_inj {a b : List Int} (ha : ∀ c, c ∈ a → 0 < c ∧ c < 128) (hb : ∀ c, c ∈ b → 0 < c ∧ c < 128) (h : pkN a = pkN b) : a = b := sorry
theorem pk_or {a c : Int} (ha : 0 ≤ a) (h2 : a < 36028797018963968) (hc : 0 ≤ c ∧ c < 256) : orL (shlL a 8) c = a * 256 + c := sorry
def chsN : List (List Int) := tb_X3_named.map (fun p => p.1)
theorem chsN_h : cl_cNameHead = chsN.map (fun t => pkN (t.take 8)) := sorry
theorem chsN_t : cl_cNameTail = chsN.map (fun t => pkN (t.drop 8)) := sorry
theorem chsN_o : cl_cNameOf = chsN.map csF := sorry
theorem chsN_c : ∀ t, t ∈ chsN → ∀ c, c ∈ t → 0 < c ∧ c < 128 := sorry
theorem chsN_l : ∀ t, t ∈ chsN → t.length ≤ 16 := sorry
theorem csF_out {t : List Int} (h : t ∉ chsN) : csF t = -1 := sorry
theorem getD_mp {f : List Int → Int} {L : List (List Int)} {n : Nat} (h : n < L.length) (d : Int) (e : List Int) : (L.map f).getD n d = f (L.getD n e) := sorry
theorem nmS_bad {l : List Int} {f t k : Int} (h : 0 ≤ f ∧ f ≤ k ∧ k < t ∧ t ≤ len l) (hk : ¬ (33 ≤ gt l k ∧ gt l k ≤ 126)) : nmS l f t = [] := sorry
theorem t_cCharsetOf {f t : Int} {l : List Int} {τ : TT} {Q : Int → TT → Prop} (h : TAP τ l) (hf : 0 ≤ f ∧ f ≤ t ∧ t ≤ len l) (hQ : Q (csF (nmS l f t)) τ) : w_cCharsetOf f t τ Q := sorry
/-! 96.aq.lean.txt -/
/-! the twin: is there an encoded word -/
set_option maxRecDepth 100000
theorem or32_in {c : Int} (h : -1 ≤ c ∧ c < 256) : (((orI c 32 = 113 ∨ orI c 32 = 98) ∧ 64 ≤ c) ↔ (c = 113 ∨ c = 81 ∨ c = 98 ∨ c = 66)) ∧ (64 ≤ c → (orI c 32 = 98 ↔ (c = 98 ∨ c = 66))) := sorry
theorem t_cIsWord {k : Int} {l : List Int} {τ : TT} {Q : Int → TT → Prop} (h : TAP τ l) (hk : 0 ≤ k ∧ k ≤ len l) (h0 : ∀ τ', Fr τ τ' [159, 160, 161, 162] [] → weF l k < 0 → Q 0 τ')
    (h1 : ∀ τ', Fr τ τ' [159, 160, 161, 162] [] → 0 ≤ weF l k → τ'.1 159 = stF l k (fsF l k) → τ'.1 160 = (if orI (atI l (fsF l k + 1)) 32 = 98 then 66 else 81) → τ'.1 161 = fsF l k + 3 → τ'.1 162 = weF l k - 2 → Q 1 τ') : w_cIsWord k τ Q := sorry
/-! 96.ar.lean.txt -/
/-! the twin: a word read; all of a value with encoded words -/
set_option maxRecDepth 100000
theorem by8_take {f : Int → Int} {a n k : Int} (h0 : 0 ≤ k) (h1 : k ≤ n) : (by8 f a n).take k.toNat = by8 f a k := sorry
theorem TAP.sub {τ : TT} {l : List Int} (h : TAP τ l) {a b : Int} (ha : 0 ≤ a ∧ a ≤ b ∧ b ≤ len l) : sub l a b = by8 (τ.2 100) a (b - a) := sorry
theorem TAP.byt {τ : TT} {l : List Int} (h : TAP τ l) : byt l := sorry
theorem t_readP {a b : Int} {l m : List Int} {τ : TT} {Q : TT → Prop} (h : TAP τ l) (ht : TXD τ m) (ha : 0 ≤ a ∧ a ≤ b ∧ b ≤ len l) (hb : len (m ++ utf8 (sub l a b)) + 2 ≤ 4200)
    (hQ : ∀ τ', Fr τ τ' [150, 154, 155, 158] [101, 103] → TXD τ' (m ++ utf8 (sub l a b)) → Q τ') : w_cReadPlain a b τ Q := sorry
theorem t_cIsBlank {f t : Int} {l : List Int} {τ : TT} {Q : Int → TT → Prop} (h : TAP τ l) (hf : 0 ≤ f ∧ f ≤ t ∧ t ≤ len l) (hQ : Q (if whB (sub l f t) = true then 1 else 0) τ) : w_cIsBlank f t τ Q := sorry
theorem qwV_sub {l : List Int} {f t k : Int} (hf : 0 ≤ f ∧ f ≤ k ∧ k < t ∧ t ≤ len l) : gt (sub l f t) (k - f) = gt l k ∧ qwV (sub l f t) (k - f) = if gt l k = 61 then qtdF l k t else -1 := sorry
theorem t_cReadWord {cs kd f t : Int} {l m B : List Int} {τ : TT} {Q : TT → Prop} (h : TAP τ l) (ht : TXD τ m) (h159 : τ.1 159 = cs) (hcs : 0 ≤ cs ∧ cs < 100) (h160 : τ.1 160 = kd) (h161 : τ.1 161 = f) (h162 : τ.1 162 = t) (hf : 0 ≤ f ∧ f ≤ t ∧ t ≤ len l)
    (hB : B = if kd = 66 then unbase 0 0 (sub l f t) else qwF (sub l f t) 0) (hb : len (m ++ chsF cs B) + 2 ≤ 4200)
    (hQ : ∀ τ', Fr τ τ' [150, 153, 154, 155, 156, 157, 158] [101, 102, 103] → TXD τ' (m ++ chsF cs B) → Q τ') : w_cReadWord τ Q := sorry
theorem t_cWords {l : List Int} {τ : TT} {Q : Int → TT → Prop} (h : TAP τ l) (hl : len l ≤ 4000) (hQ : ∀ τ', Fr τ τ' [148, 150, 153, 154, 155, 156, 157, 158, 159, 160, 161, 162] [101, 102, 103] → TXD τ' (enR l 0 [] false) → τ'.1 148 = 0 → Q (len (enR l 0 [] false)) τ') : w_cWords τ Q := sorry
/-! 96.as.lean.txt -/
/-! the twin: a character put as UTF-8 -/
set_option maxRecDepth 100000
theorem t_cPutUtf8 {c : Int} {o : List Int} {τ : TT} {Q : TT → Prop} (ho : OUTP τ o) (hc : 0 ≤ c ∧ c < 65536) (hl : len o + 3 ≤ 8500) (hQ : ∀ τ', Fr τ τ' [153] [102] → OUTP τ' (o ++ utC c) → Q τ') : w_cPutUtf8 c τ Q := sorry
