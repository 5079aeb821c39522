/-! 98.ba.lean.txt -/
/-! the twin: the text that is cut into words; signs -/
set_option maxRecDepth 100000
/-- the text -/
def WTX (τ : TT) (l : List Int) : Prop := l = seg (τ.2 142) 0 (τ.1 216) ∧ (0 ≤ τ.1 216 ∧ τ.1 216 ≤ 2000) ∧ ∀ x, x ∈ l → 0 ≤ x ∧ x < 65536
theorem WTX.fr {τ τ' : TT} {l : List Int} (h : WTX τ l) (h1 : τ'.1 216 = τ.1 216) (h2 : τ'.2 142 = τ.2 142) : WTX τ' l := by
  unfold WTX
  rw [h1, h2]
  exact h
theorem WTX.ln {τ : TT} {l : List Int} (h : WTX τ l) : len l = τ.1 216 := sorry
theorem WTX.rd {τ : TT} {l : List Int} (h : WTX τ l) {k : Int} (hk : 0 ≤ k ∧ k < len l) : τ.2 142 k = gt l k := sorry
theorem WTX.ch {τ : TT} {l : List Int} (h : WTX τ l) {k : Int} (hk : 0 ≤ k ∧ k < len l) : 0 ≤ gt l k ∧ gt l k < 65536 := h.2.2 _ (gt_mem hk.1 hk.2)
theorem WTX.at {τ : TT} {l : List Int} (h : WTX τ l) {k : Int} : -1 ≤ atI l k ∧ atI l k < 65536 := sorry
section WSG
variable {τ : TT} {l : List Int} {c k a b : Int}
theorem t_wLook {Q : Int → TT → Prop} (h : WTX τ l) (hk : 0 ≤ k ∧ k < 2147483648) (hQ : Q (atI l k) τ) : w_wLook k τ Q := sorry
theorem t_wIsPlain {Q : Int → TT → Prop} (hc : -2147483648 ≤ c ∧ c < 2147483648) (hQ1 : chLt c → Q 1 τ) (hQ0 : ¬ chLt c → Q 0 τ) : w_wIsPlain c τ Q := sorry
theorem t_wIsLetter {Q : Int → TT → Prop} (hc : -2147483648 ≤ c ∧ c < 2147483648) (hQ1 : chWL c → Q 1 τ) (hQ0 : ¬ chWL c → Q 0 τ) : w_wIsLetter c τ Q := sorry
theorem t_wIsDigit {Q : Int → TT → Prop} (hc : -2147483648 ≤ c ∧ c < 2147483648) (hQ1 : chDg c → Q 1 τ) (hQ0 : ¬ chDg c → Q 0 τ) : w_wIsDigit c τ Q := sorry
theorem t_wIsWord {Q : Int → TT → Prop} (hc : -2147483648 ≤ c ∧ c < 2147483648) (hQ1 : chWP c → Q 1 τ) (hQ0 : ¬ chWP c → Q 0 τ) : w_wIsWord c τ Q := sorry
theorem t_wIsBlank {Q : Int → TT → Prop} (hc : -2147483648 ≤ c ∧ c < 2147483648) (hQ1 : chWB c → Q 1 τ) (hQ0 : ¬ chWB c → Q 0 τ) : w_wIsBlank c τ Q := sorry
theorem t_wWithin {Q : Int → TT → Prop} (hc : -2147483648 ≤ c ∧ c < 2147483648) (ha : -2147483648 ≤ a ∧ a < 2147483648) (hb : -2147483648 ≤ b ∧ b < 2147483648) (hQ1 : a ≤ c ∧ c ≤ b → Q 1 τ) (hQ0 : ¬ (a ≤ c ∧ c ≤ b) → Q 0 τ) : w_wWithin c a b τ Q := sorry
theorem smW_1 (h : (65 ≤ c ∧ c ≤ 90) ∨ (192 ≤ c ∧ c ≤ 222 ∧ c ≠ 215) ∨ (913 ≤ c ∧ c ≤ 939 ∧ c ≠ 930) ∨ (1040 ≤ c ∧ c ≤ 1071)) : smW c = c + 32 := if_pos h
/-- the same as a chain -/
theorem t_wSmall {Q : Int → TT → Prop} (hc : -1 ≤ c ∧ c < 2147480000) (hQ : Q (smW c) τ) : w_wSmall c τ Q := sorry
theorem smW_bd (hc : -1 ≤ c ∧ c < 65536) : -1 ≤ smW c ∧ smW c < 65536 + 100 := sorry
end WSG

/-! 98.bb.lean.txt -/
/-! the twin: packed words stand; a tag's name; a tag's end -/
set_option maxRecDepth 100000
def bqL : List Int := [98, 108, 111, 99, 107, 113, 117, 111, 116, 101]
/-- the words that the twin keeps as numbers -/
def WDS : List (List Int) := tb_X43_named.map (fun p => p.1) ++ [[115, 99, 114, 105, 112, 116], [115, 116, 121, 108, 101], [116, 105, 116, 108, 101], [98, 108, 111, 99, 107, 113, 117, 111], [119, 114, 111, 116, 101], [115, 99, 104, 114, 105, 101, 98]]
theorem wd_len : ∀ w, w ∈ WDS → 1 ≤ len w ∧ len w ≤ 8 := sorry
theorem wd_at {w : List Int} (hw : w ∈ WDS) {k : Int} (hk : 0 ≤ k ∧ k < len w) : andL (ushrL (pkN w) (8 * ((len w - 1) - k))) 255 = gt w k ∧ (97 ≤ gt w k ∧ gt w k ≤ 122) := sorry
theorem wd_nz {w : List Int} (hw : w ∈ WDS) {k : Int} (hk : 0 ≤ k ∧ k < len w) : ¬ ushrL (pkN w) (8 * k) = 0 := sorry
theorem wd_z {w : List Int} (hw : w ∈ WDS) (hl : len w < 8) : ushrL (pkN w) (8 * len w) = 0 := sorry
/-- a word stands -/
def stP (al : Bool) (l w : List Int) (k : Int) : Prop := ∀ j, 0 ≤ j → j < len w → (if al = true then smW (atI l (k + j)) else atI l (k + j)) = gt w j
theorem hasR_stP : ∀ {w l : List Int} {k : Int}, 0 ≤ k → k ≤ len l → (∀ b, b ∈ w → chWP b ∧ 0 ≤ b) → ((k + len w ≤ len l ∧ hasR (l.drop k.toNat) w = true) ↔ stP true l w k) := sorry
theorem wd_ch {w : List Int} (hw : w ∈ WDS) : ∀ b, b ∈ w → chWP b ∧ 0 ≤ b := sorry
theorem hasT_stP {w l : List Int} {k : Int} (hw : w ∈ WDS) (hk : 0 ≤ k) : hasT l k w = true ↔ stP true l w k := sorry
theorem stP_sub {w l : List Int} {k : Int} (hw : w ∈ WDS) (hk : 0 ≤ k) : stP false l w k ↔ (k + len w ≤ len l ∧ sub l k (k + len w) = w) := sorry
/-- a tag's name as the twin has it -/
def nmV (t : List Int) : Int := if len t ≤ 8 then pkN t else if t = bqL then 2 else 1
def tgL (l : List Int) (a : Int) : List Int := (sub l a (scn ldB l a)).map lowB
section WNM
variable {τ : TT} {l w : List Int} {a k : Int}
theorem t_wLengthOf {Q : Int → TT → Prop} (hw : w ∈ WDS) (hQ : Q (len w) τ) : w_wLengthOf (pkN w) τ Q := sorry
theorem t_wStands {al : Int} {Q : Int → TT → Prop} (h : WTX τ l) (hw : w ∈ WDS) (hk : 0 ≤ k ∧ k < 2147480000) (hal : al = 0 ∨ al = 1) (hQ1 : stP (decide (al = 1)) l w k → Q 1 τ) (hQ0 : ¬ stP (decide (al = 1)) l w k → Q 0 τ) : w_wStands k (pkN w) al τ Q := sorry
theorem pkB_bq : pkN [98, 108, 111, 99, 107, 113, 117, 111] = 7092165985996731759 := sorry
theorem pkN_63 {t : List Int} (h : ∀ c, c ∈ t → 0 < c ∧ c < 128) (hl : t.length ≤ 8) : 0 ≤ pkN t ∧ pkN t < 9223372036854775808 := sorry
theorem ldB_t {c : Int} (h : chLt c ∨ chDg c) : ldB c = true := sorry
theorem ldB_f {c : Int} (h1 : ¬ chLt c) (h2 : ¬ chDg c) : ldB c = false := sorry
theorem ldB_p {c : Int} (h : ldB c = true) : 0 < lowB c ∧ lowB c < 128 := sorry
theorem tgL_ch {e : Int} (ha : 0 ≤ a ∧ a ≤ e ∧ e ≤ scn ldB l a) (he : e ≤ len l) : ∀ c, c ∈ (sub l a e).map lowB → 0 < c ∧ c < 128 := sorry
theorem t_wNameAt {Q : Int → TT → Prop} (h : WTX τ l) (ha : 0 ≤ a ∧ a ≤ len l) (hQ : Q (nmV (tgL l a)) τ) : w_wNameAt a τ Q := sorry
theorem t_wTagEnd {Q : Int → TT → Prop} (h : WTX τ l) (ha : 0 ≤ a ∧ a ≤ len l) (hQ : Q (min (len l) (teF l a)) τ) : w_wTagEnd a τ Q := sorry
end WNM

/-! 98.bc.lean.txt -/
/-! the twin: what a page gives -/
set_option maxRecDepth 100000
/-- what is written -/
def WOU (τ : TT) (o : List Int) : Prop := o = seg (τ.2 143) 0 (τ.1 218) ∧ 0 ≤ τ.1 218
theorem WOU.fr {τ τ' : TT} {o : List Int} (h : WOU τ o) (h1 : τ'.1 218 = τ.1 218) (h2 : τ'.2 143 = τ.2 143) : WOU τ' o := by
  unfold WOU
  rw [h1, h2]
  exact h
theorem WOU.ln {τ : TT} {o : List Int} (h : WOU τ o) : len o = τ.1 218 := sorry
theorem WOU.lsx {τ : TT} {o : List Int} (h : WOU τ o) (h0 : 0 < len o) : lst o = τ.2 143 (τ.1 218 - 1) := sorry
theorem ne_len {o : List Int} : o = [] ↔ ¬ 0 < len o := sorry
/-- a page that is being read -/
def PGW (τ : TT) (l : List Int) (k : Int) (pre : Bool) (o : List Int) : Prop := WTX τ l ∧ τ.1 229 = k ∧ τ.1 230 = (if pre = true then 1 else 0) ∧ WOU τ o
section WPO
variable {τ : TT} {l o : List Int} {c k : Int} {pre : Bool}
theorem PGW.pr (h : PGW τ l k pre o) : (τ.1 230 = 0 ∧ pre = false) ∨ (τ.1 230 = 1 ∧ pre = true) := sorry
theorem t_wWrite {Q : TT → Prop} (h : WOU τ o) (hl : len o < 2100) (hc : -2147483648 ≤ c ∧ c < 2147483648) (hQ : ∀ τ', Fr τ τ' [218] [143] → WOU τ' (o ++ [c]) → Q τ') : w_wWrite c τ Q := sorry
theorem t_wBehind {Q : Int → TT → Prop} (h : WOU τ o) (hl : len o ≤ 2100) (hc : -2147483648 ≤ c ∧ c < 2147483648) (hQ1 : 0 < len o ∧ lst o = c → Q 1 τ) (hQ0 : ¬ (0 < len o ∧ lst o = c) → Q 0 τ) : w_wBehind c τ Q := sorry
theorem t_wDropSpaces {Q : TT → Prop} (h : WOU τ o) (hl : len o ≤ 2100) (hQ : ∀ τ', Fr τ τ' [218] [] → WOU τ' (dropS o) → Q τ') : w_wDropSpaces τ Q := sorry
theorem t_wWriteBlank {Q : TT → Prop} (h : PGW τ l k pre o) (hl : len o < 2100) (hc : -2147483648 ≤ c ∧ c < 2147483648)
    (hQ : ∀ τ', Fr τ τ' [218] [143] → WOU τ' (if pre = true then (if c = 13 then o else o ++ [c]) else pgSp o) → Q τ') : w_wWriteBlank c τ Q := sorry
theorem t_wWriteBreak {Q : TT → Prop} (h : PGW τ l k pre o) (hl : len o < 2100) (hQ : ∀ τ', Fr τ τ' [218] [143] → WOU τ' (pgBr pre o) → Q τ') : w_wWriteBreak τ Q := sorry
end WPO

/-! 98.bd.lean.txt -/
/-! the twin: tags of a page -/
set_option maxRecDepth 100000
section WTG
variable {τ : TT} {l o t w : List Int} {c k x a : Int} {pre : Bool}
/-- names by their numbers -/
def kdX (x : Int) : Int := if x = 126870958469236 then 0 else if x = 495875353701 then 1 else if x = 499985443941 then 2 else if x = 7369317 then 3 else if x = 112 then 4 else if x = 6580598 then 5 else if x = 25202 then 6 else if x = 29810 then 7 else if x = 27753 then 8 else if x = 30060 then 9 else if x = 28524 then 10 else if x = 499850046565 then 11 else if x = 2 then 12 else if x = 26673 then 13 else if x = 26674 then 14 else if x = 26675 then 15 else if x = 26676 then 16 else if x = 26677 then 17 else if x = 26678 then 18 else if x = 26738 then 19 else if x = 29796 then 20 else if x = 29800 then 21 else -1
theorem nmV_i (ht : ∀ c, c ∈ t → 2 < c ∧ c < 128) (hw : w.length ≤ 8 ∧ (∀ c, c ∈ w → 0 < c ∧ c < 128)) (h2 : 2 < pkN w) : (t = w) = (nmV t = pkN w) := sorry
theorem nmV_b (ht : ∀ c, c ∈ t → 2 < c ∧ c < 128) : (t = bqL) = (nmV t = 2) := sorry
theorem kdX_nm (ht : ∀ c, c ∈ t → 2 < c ∧ c < 128) : lkI tb_tag t = kdX (nmV t) := sorry
theorem t_wBreaks {Q : Int → TT → Prop} (hx : -9223372036854775808 ≤ x ∧ x < 9223372036854775808) (hQ1 : 3 ≤ kdX x ∧ kdX x ≤ 19 → Q 1 τ) (hQ0 : ¬ (3 ≤ kdX x ∧ kdX x ≤ 19) → Q 0 τ) : w_wBreaks x τ Q := sorry
theorem kdX_3 : x = 7369317 ↔ kdX x = 3 := sorry
theorem kdX_20 (h1 : ¬ x = 29796) (h2 : ¬ x = 29800) : ¬ 20 ≤ kdX x := sorry
theorem kdX_2 (h1 : ¬ x = 126870958469236) (h2 : ¬ x = 495875353701) (h3 : ¬ x = 499985443941) : ¬ (0 ≤ kdX x ∧ kdX x ≤ 2) := sorry
theorem tgS_p {i : Int} (hi : lkI tb_tag (tgN l k) = i) : (tgS l k pre o).2.1 = if i = 3 then (if atI l (k + 1) = 47 then false else true) else pre := sorry
theorem tgS_o {i : Int} (hi : lkI tb_tag (tgN l k) = i) : (tgS l k pre o).2.2 = if i = 3 then (if atI l (k + 1) = 47 then pgBr false o else pgBr pre o) else if 3 ≤ i ∧ i ≤ 19 then pgBr pre o else if 20 ≤ i then (if pre = true then o ++ [32] else pgSp o) else o := sorry
theorem tgN_ch (ha : 0 ≤ a ∧ a ≤ len l) : ∀ c, c ∈ tgL l a → 2 < c ∧ c < 128 := sorry
/-- within a name nothing ends a tag -/
theorem teG_nm (h0 : 0 ≤ a) (h1 : a ≤ len l) : teG l 0 a = teG l 0 (scn ldB l a) := sorry
theorem tgE_nm (hk : 0 ≤ k ∧ k < len l) : teF l (tgB l k) = tgE l k := sorry
/-- where a tag goes on, in the twin -/
def tgK (l : List Int) (k : Int) : Int := if (0 ≤ lkI tb_tag (tgN l k) ∧ lkI tb_tag (tgN l k) ≤ 2) ∧ ¬ atI l (k + 1) = 47 then min (len l) (hdnS l (tgN l k) (tgE l k)) else min (len l) (tgE l k)
theorem hdn_iff (hw : w ∈ WDS) (hk : 0 ≤ k ∧ k < len l) : hdnP l w k = true ↔ (gt l k = 60 ∧ atI l (k + 1) = 47 ∧ stP true l w (k + 2) ∧ ¬ chWP (atI l (k + 2 + len w))) := sorry
theorem t_wSkip {Q : TT → Prop} (h : PGW τ l k pre o) (hk : 0 ≤ k ∧ k ≤ len l) (hw : w ∈ WDS) (hQ : ∀ τ', Fr τ τ' [229] [] → τ'.1 229 = hdnS l w k → Q τ') : w_wSkip (pkN w) τ Q := sorry
theorem hdnS_min (h0 : 0 ≤ x) : hdnS l w (min (len l) x) = min (len l) (hdnS l w x) := sorry
theorem t_wReadTag {Q : TT → Prop} (h : PGW τ l k pre o) (hk : 0 ≤ k ∧ k < len l) (hl : len o < 2050)
    (hQ : ∀ τ', Fr τ τ' [218, 229, 230] [143] → PGW τ' l (tgK l k) (tgS l k pre o).2.1 (tgS l k pre o).2.2 → Q τ') : w_wReadTag τ Q := sorry
end WTG

/-! 98.be.lean.txt -/
/-! the twin: what is skipped; numbers and names behind an & -/
set_option maxRecDepth 100000
theorem hasR_stF : ∀ {w l : List Int} {k : Int}, 0 ≤ k → k ≤ len l → (∀ b, b ∈ w → ¬ chWP b ∧ 0 ≤ b) → ((k + len w ≤ len l ∧ hasR (l.drop k.toNat) w = true) ↔ stP false l w k) := sorry
theorem hasT_stF {w l : List Int} {k : Int} (hw : ∀ b, b ∈ w → ¬ chWP b ∧ 0 ≤ b) (hk : 0 ≤ k ∧ k ≤ len l) : hasT l k w = true ↔ stP false l w k := sorry
section WEN
variable {τ : TT} {l o w : List Int} {c k x a e : Int} {pre : Bool}
theorem has_3 (hk : 0 ≤ k ∧ k < len l) : hasT l k [45, 45, 62] = true ↔ (gt l k = 45 ∧ atI l (k + 1) = 45 ∧ atI l (k + 2) = 62) := sorry
theorem has_4 (hk : 0 ≤ k ∧ k < len l) : hasT l k [60, 33, 45, 45] = true ↔ (gt l k = 60 ∧ atI l (k + 1) = 33 ∧ atI l (k + 2) = 45 ∧ atI l (k + 3) = 45) := sorry
theorem has_1 (hk : 0 ≤ k ∧ k < len l) : hasT l k [62] = true ↔ gt l k = 62 := sorry
def skL (cm : Int) : List Int := if cm = 0 then [62] else [45, 45, 62]
theorem t_wSkipTo {cm : Int} {Q : TT → Prop} (h : WTX τ l) (ha : 0 ≤ a ∧ a ≤ len l) (hc : cm = 0 ∨ cm = 1) (hQ : ∀ τ', Fr τ τ' [229] [] → τ'.1 229 = skF l (skL cm) a → Q τ') : w_wSkipTo a cm τ Q := sorry
/-- a digit's worth -/
def wrF (sx : Bool) (c : Int) : Int := if sx = true then hxF c else if chDg c then c - 48 else -1
theorem wrF_in {sx : Bool} : -1 ≤ wrF sx c ∧ wrF sx c ≤ 15 := sorry
theorem wrF_b {sx : Bool} : ntB sx c = true ↔ 0 ≤ wrF sx c := sorry
theorem nvD_wr {sx : Bool} {v : Int} (h : 0 ≤ wrF sx c) : nvD sx v c = (if sx = true then 16 else 10) * v + wrF sx c := sorry
theorem t_wWorth {sx : Bool} {b : Int} {Q : Int → TT → Prop} (hc : -2147480000 ≤ c ∧ c < 2147480000) (hb : b = if sx = true then 16 else 10) (hQ : Q (wrF sx c) τ) : w_wWorth c b τ Q := sorry
/-- what an & gives, its code known -/
def entR (l : List Int) (k e v : Int) (o : List Int) : Int × List Int := if v < 0 then (k + 1, o ++ [38]) else (if atI l e = 59 then e + 1 else e, o ++ [v])
theorem t_wReadNumber {sx : Bool} {b m : Int} {Q : TT → Prop} (h : PGW τ l k pre o) (hk : 0 ≤ k ∧ k < len l) (hl : len o < 2050) (ha : 0 ≤ a ∧ a ≤ len l) (hb : b = if sx = true then 16 else 10) (hm : m = if sx = true then 6 else 7)
    (hQ : ∀ τ' E, E = entR l k (scn (ntB sx) l a) (ntC sx (scn (ntB sx) l a - a) (nvF sx (sub l a (scn (ntB sx) l a)))) o → Fr τ τ' [218, 229] [143] → PGW τ' l E.1 pre E.2 → Q τ') : w_wReadNumber a b m τ Q := sorry
/-- the name behind an & -/
def amT (l : List Int) (k : Int) : List Int := (sub l (k + 1) (scn wpB l (k + 1))).take 9
theorem amT_iff (hw : w ∈ WDS) (hk : 0 ≤ k ∧ k < len l) : amT l k = w ↔ (stP false l w (k + 1) ∧ ¬ chWP (atI l (k + 1 + len w))) := sorry
theorem t_wNamed {Q : Int → TT → Prop} (h : PGW τ l k pre o) (hk : 0 ≤ k ∧ k < len l) (hl : len o < 2050) (hw : w ∈ WDS) (hc : 0 ≤ c ∧ c < 65536)
    (hQ1 : amT l k = w → ∀ τ', Fr τ τ' [218, 229] [143] → PGW τ' l (entR l k (scn wpB l (k + 1)) c o).1 pre (entR l k (scn wpB l (k + 1)) c o).2 → Q 1 τ') (hQ0 : ¬ amT l k = w → Q 0 τ) : w_wNamed (pkN w) c τ Q := sorry
end WEN

/-! 98.bf.lean.txt -/
/-! the twin: an &; a <; the whole page -/
set_option maxRecDepth 100000
section WPG
variable {τ : TT} {l o : List Int} {c k : Int} {pre : Bool}
theorem entS_R (hk : 0 ≤ k ∧ k < len l) (h : ¬ atI l (k + 1) = 35) : entS l k o = entR l k (scn wpB l (k + 1)) (nmF (amT l k)) o := by
  unfold entS entC entR amT
  rw [if_neg h]
theorem entS_le (hk : 0 ≤ k ∧ k < len l) : (entS l k o).1 ≤ len l := sorry
theorem hdn_stop {w : List Int} (h0 : 0 ≤ k) (h : hdnS l w k < len l) : hdnP l w (hdnS l w k) = true := sorry
theorem sm_let (h : 0 ≤ c ∧ c < 65536) (hs : 97 ≤ smW c ∧ smW c ≤ 122) : chLt c := sorry
theorem nm_nx {t w : List Int} {tb : List (List Int × Int)} {v : Int} (h : ¬ t = w) : lkI ((w, v) :: tb) t = lkI tb t := if_neg h
theorem t_wReadAmp {Q : TT → Prop} (h : PGW τ l k pre o) (hk : 0 ≤ k ∧ k < len l) (hl : len o < 2050)
    (hQ : ∀ τ', Fr τ τ' [218, 229] [143] → PGW τ' l (entS l k o).1 pre (entS l k o).2 → Q τ') : w_wReadAmp τ Q := sorry
theorem t_wReadLess {Q : TT → Prop} (h : PGW τ l k pre o) (hk : 0 ≤ k ∧ k < len l) (hc : gt l k = 60) (hl : len o < 2050)
    (hQ : ∀ τ', Fr τ τ' [218, 229, 230] [143] → PGW τ' l (if isTg l k = true then tgK l k else (pgS l k pre o).1) (pgS l k pre o).2.1 (pgS l k pre o).2.2 → Q τ') : w_wReadLess τ Q := sorry
/-- the characters of a page are characters -/
def chA (o : List Int) : Prop := ∀ x, x ∈ o → 0 ≤ x ∧ x < 65536
theorem chA_app {x : Int} (h : chA o) (hx : 0 ≤ x ∧ x < 65536) : chA (o ++ [x]) := sorry
theorem chA_drop (h : chA o) : chA (dropS o) := sorry
theorem chA_sp (h : chA o) : chA (pgSp o) := sorry
theorem chA_b1 (h : chA o) : chA (pgB1 o) := sorry
theorem chA_br (h : chA o) : chA (pgBr pre o) := sorry
theorem entC_ch : (entC l k).2 < 65536 := sorry
theorem pgS_ch (hch : chA l) (hk : 0 ≤ k ∧ k < len l) (h : chA o) : chA (pgS l k pre o).2.2 := sorry
theorem pgG_min {o : List Int} (h0 : 0 ≤ k) : pgG l (min (len l) k) pre o = pgG l k pre o := sorry
theorem pgG_go {o : List Int} (hk : 0 ≤ k ∧ k < len l) : pgG l k pre o = pgG l (min (len l) (pgS l k pre o).1) (pgS l k pre o).2.1 (pgS l k pre o).2.2 := sorry
theorem t_wPage {Q : Int → TT → Prop} (h : WTX τ l) (hQ : ∀ τ', Fr τ τ' [216, 218, 229, 230] [142, 143] → WTX τ' (pgF l) → Q (len (pgF l)) τ') : w_wPage τ Q := sorry
end WPG

/-! 98.bg.lean.txt -/
/-! the twin: lines of a text -/
set_option maxRecDepth 100000
/-- a line's numbers -/
def LN4 (τ : TT) (k : Int) (z : LnV × Bool × Bool) : Prop := τ.2 144 k = z.1.1 ∧ τ.2 145 k = z.1.2.1 ∧ τ.2 146 k = z.1.2.2 ∧ τ.2 147 k = b2i z.2.1
/-- the lines of the text -/
def LNW (τ : TT) (zs : List (LnV × Bool × Bool)) : Prop := lnW zs = τ.1 219 ∧ ∀ (n : Nat) z, zs[n]? = some z → LN4 τ n z ∧ τ.2 148 n = b2i z.2.2
theorem LNW.fr {τ τ' : TT} {zs : List (LnV × Bool × Bool)} (h : LNW τ zs) (h1 : τ'.1 219 = τ.1 219) (h4 : τ'.2 144 = τ.2 144) (h5 : τ'.2 145 = τ.2 145) (h6 : τ'.2 146 = τ.2 146) (h7 : τ'.2 147 = τ.2 147) (h8 : τ'.2 148 = τ.2 148) : LNW τ' zs := sorry
section WLN
variable {τ : TT} {l m : List Int} {a e k : Int}
theorem wdR_stP : ∀ {m : List Int} {k : Int}, wdR l m k = true ↔ stP false l m k := sorry
theorem isWd_iff : isWd l k e m = true ↔ (k + len m ≤ e ∧ ¬ chWP (atI l (k - 1)) ∧ ¬ chWP (atI l (k + len m)) ∧ stP false l m k) := sorry
theorem t_wDepthOf {Q : Int → TT → Prop} (h : WTX τ l) (ha : 0 ≤ a ∧ a ≤ e ∧ e ≤ len l) (hQ : Q (dpG l e a) τ) : w_wDepthOf a e τ Q := sorry
theorem has_2 (hk : 0 ≤ k ∧ k ≤ len l) : hasT l k [45, 45] = true ↔ (atI l k = 45 ∧ atI l (k + 1) = 45) := sorry
theorem t_wIsMark {Q : Int → TT → Prop} (h : WTX τ l) (ha : 0 ≤ a ∧ a ≤ e ∧ e ≤ len l) (hQ1 : (e - a = 2 ∨ (e - a = 3 ∧ atI l (a + 2) = 32)) ∧ hasT l a [45, 45] = true → Q 1 τ) (hQ0 : ¬ ((e - a = 2 ∨ (e - a = 3 ∧ atI l (a + 2) = 32)) ∧ hasT l a [45, 45] = true) → Q 0 τ) : w_wIsMark a e τ Q := sorry
theorem t_wHasWord {Q : Int → TT → Prop} (h : WTX τ l) (hm : m ∈ WDS) (ha : 0 ≤ a ∧ a ≤ e ∧ e ≤ len l) (hb : ¬ chWP (atI l (a - 1))) (he : ¬ chWP (atI l e)) (hQ1 : ∀ k, a ≤ k ∧ k < e → isWd l k e m = true → Q 1 τ) (hQ0 : (∀ k, a ≤ k → k < e → ¬ isWd l k e m = true) → Q 0 τ) : w_wHasWord a e (pkN m) τ Q := sorry
theorem ldS_iff : ∀ (N : Nat) (k : Int), (e - k).toNat = N → (ldS l e k = true ↔ ∃ j, (k ≤ j ∧ j < e) ∧ ldC l e j = true) := sorry
theorem ldC_iff : ldC l e k = true ↔ (atI l k = 64 ∨ isWd l k e WROT = true ∨ isWd l k e SCHR = true) := sorry
theorem pk_wr : pkN WROT = 513021015141 := sorry
theorem pk_sc : pkN SCHR = 32478922568983906 := sorry
theorem t_wLeads {Q : Int → TT → Prop} (h : WTX τ l) (ha : 0 ≤ a ∧ a ≤ e ∧ e ≤ len l) (hb : ¬ chWP (atI l (a - 1))) (he : ¬ chWP (atI l e)) (hQ : Q (b2i (ldF l a (e - a))) τ) : w_wLeads a e τ Q := sorry
theorem get_drop {α : Type} {Z : List α} {n : Nat} {z : α} {r : List α} (h : Z.drop n = z :: r) : Z[n]? = some z ∧ Z.drop (n + 1) = r := sorry
/-- where a line begins and ends no word goes on -/
def lnO1 (l : List Int) (v : LnV) : Prop := (0 ≤ v.1 ∧ 0 ≤ v.2.1 ∧ v.1 + v.2.1 ≤ len l) ∧ ¬ chWP (atI l (v.1 - 1)) ∧ ¬ chWP (atI l (v.1 + v.2.1))
theorem lnG_ok : ∀ (N : Nat) (k : Int), (len l - k).toNat = N → 0 ≤ k → ¬ chWP (atI l (k - 1)) → ∀ v, v ∈ lnG l k → lnO1 l v := sorry
theorem lnG_cnt : ∀ (N : Nat) (k : Int), (len l - k).toNat = N → 0 ≤ k → ((lnG l k).length : Int) ≤ max 0 (len l - k) := sorry
theorem lnZ_at : ∀ (A : List LnV) (s : Bool) (n : Nat) z, (lnZ l A s)[n]? = some z → A[n]? = some z.1 ∧ z.2.2 = ldN l z.1 (A.drop (n + 1)) := sorry
theorem t_wLookAtLines {Q : TT → Prop} (h : WTX τ l) (hQ : ∀ τ', Fr τ τ' [219] [144, 145, 146, 147, 148] → LNW τ' (lnA l) → Q τ') : w_wLookAtLines τ Q := sorry
end WLN

/-! 98.bh.lean.txt -/
/-! the twin: the stemmer's letters -/
set_option maxRecDepth 100000
/-- a word of small letters that a number holds -/
def pkB (w : List Int) : Bool := decide (len w ≤ 8) && ((List.range w.length).all (fun n => decide (andL (ushrL (pkN w) (8 * ((len w - 1) - (n : Int)))) 255 = gt w (n : Int) ∧ (97 ≤ gt w (n : Int) ∧ gt w (n : Int) ≤ 122) ∧ ¬ ushrL (pkN w) (8 * (n : Int)) = 0)) && decide (len w < 8 → ushrL (pkN w) (8 * len w) = 0))
theorem pkB_at {w : List Int} (h : pkB w = true) {k : Int} (hk : 0 ≤ k ∧ k < len w) : andL (ushrL (pkN w) (8 * ((len w - 1) - k))) 255 = gt w k ∧ (97 ≤ gt w k ∧ gt w k ≤ 122) ∧ ¬ ushrL (pkN w) (8 * k) = 0 := sorry
theorem pkB_l {w : List Int} (h : pkB w = true) : len w ≤ 8 ∧ (len w < 8 → ushrL (pkN w) (8 * len w) = 0) := sorry
/-- the word in hand -/
def WRS (τ : TT) (w : List Int) : Prop := w = seg (τ.2 153) 0 (τ.1 232) ∧ (0 ≤ τ.1 232 ∧ τ.1 232 ≤ 32)
theorem WRS.fr {τ τ' : TT} {w : List Int} (h : WRS τ w) (h1 : τ'.1 232 = τ.1 232) (h2 : τ'.2 153 = τ.2 153) : WRS τ' w := by
  unfold WRS
  rw [h1, h2]
  exact h
theorem WRS.ln {τ : TT} {w : List Int} (h : WRS τ w) : len w = τ.1 232 := sorry
theorem WRS.rd {τ : TT} {w : List Int} (h : WRS τ w) {k : Int} (hk : 0 ≤ k ∧ k < len w) : τ.2 153 k = gt w k := sorry
section WST
variable {τ : TT} {w s : List Int} {k n : Int}
theorem vwI_n (h0 : 0 ≤ k) (h : ¬ gt w k = 121) : vwI w k = decide (chVo (gt w k)) := sorry
theorem vwI_s (h0 : 0 < k) (h : gt w k = 121) : vwI w k = !(vwI w (k - 1)) := sorry
theorem vwI_0 (h : gt w 0 = 121) : vwI w 0 = false := sorry
theorem t_wLengthOfP {Q : Int → TT → Prop} (hw : pkB w = true) (hQ : Q (len w) τ) : w_wLengthOf (pkN w) τ Q := sorry
theorem t_wIsVowelAhead {Q : Int → TT → Prop} (h : WRS τ w) (hk : 0 ≤ k ∧ k < len w) (hQ : Q (b2i (vwI w k)) τ) : w_wIsVowelAhead k τ Q := sorry
theorem t_wIsVowel {Q : Int → TT → Prop} (h : WRS τ w) (hk : 0 ≤ k ∧ k < len w) (hQ1 : vwI w k = true → Q 1 τ) (hQ0 : ¬ vwI w k = true → Q 0 τ) : w_wIsVowel k τ Q := sorry
theorem msI_s (h0 : 0 < k) : msI w (k + 1) = msI w k + (if vwI w (k - 1) = true ∧ vwI w k = false then 1 else 0) := sorry
theorem t_wMeasure {Q : Int → TT → Prop} (h : WRS τ w) (hk : 0 ≤ n ∧ n ≤ len w) (hQ : Q (msI w n) τ) : w_wMeasure n τ Q := sorry
theorem hvN_iff : ∀ {n : Nat}, hvN w n = true ↔ ∃ j, j < n ∧ vwN w j = true := sorry
theorem t_wHasVowel {Q : Int → TT → Prop} (h : WRS τ w) (hk : 0 ≤ n ∧ n ≤ len w) (hQ1 : hvI w n = true → Q 1 τ) (hQ0 : ¬ hvI w n = true → Q 0 τ) : w_wHasVowel n τ Q := sorry
theorem t_wCvc {Q : Int → TT → Prop} (h : WRS τ w) (hk : 0 ≤ n ∧ n ≤ len w) (hQ1 : shB w n = true → Q 1 τ) (hQ0 : ¬ shB w n = true → Q 0 τ) : w_wCvc n τ Q := sorry
end WST

/-! 98.bi.lean.txt -/
/-! the twin: endings taken off (printed by mk_98bi.py) -/
set_option maxRecDepth 100000
section WEND
variable {τ : TT} {w s old now : List Int} {k n : Int}
theorem enB_iff : enB w s = true ↔ (len s ≤ len w ∧ sub w (len w - len s) (len w) = s) := sorry
theorem WRS.cut (h : WRS τ w) (hk : 0 ≤ k ∧ k ≤ len w) : WRS (τ.s 232 k) (w.take k.toNat) := sorry
theorem t_wHas {Q : Int → TT → Prop} (h : WRS τ w) (hp : pkB s = true) (hQ1 : enB w s = true → Q 1 τ) (hQ0 : ¬ enB w s = true → Q 0 τ) : w_wHas (pkN s) τ Q := sorry
theorem t_wAppend {Q : TT → Prop} (h : WRS τ w) (hp : pkB s = true) (hl : len w + len s ≤ 32) (hQ : ∀ τ', Fr τ τ' [232] [153] → WRS τ' (w ++ s) → Q τ') : w_wAppend (pkN s) τ Q := sorry
theorem t_wTurns {ab : Int} {Q : Int → TT → Prop} (h : WRS τ w) (hp : pkB old = true) (hp2 : pkB now = true) (hl : len now ≤ len old + 1) (hw : len w ≤ 31) (hab : ab = 0 ∨ ab = 1)
    (hQ1 : enB w old = true → ∀ τ', Fr τ τ' [232] [153] → WRS τ' (swT w old now ab) → Q 1 τ') (hQ0 : ¬ enB w old = true → Q 0 τ) : w_wTurns (pkN old) (pkN now) ab τ Q := sorry
theorem t_wSecond {Q : TT → Prop} (h : WRS τ w) (hw : len w ≤ 31) (hQ : ∀ τ', Fr τ τ' [232] [153] → WRS τ' (chC 0 tbSec w).2 → Q τ') : w_wSecond τ Q := sorry
end WEND

/-! 98.bj.lean.txt -/
/-! the twin: the stemmer's third and fourth step (printed by mk_98bj.py) -/
set_option maxRecDepth 100000
section WTF
variable {τ : TT} {w a b : List Int}
theorem enB_x (h : enB w a = true) (hl : len a = len b) (hn : ¬ a = b) : ¬ enB w b = true := sorry
theorem t_wThird {Q : TT → Prop} (h : WRS τ w) (hw : len w ≤ 31) (hQ : ∀ τ', Fr τ τ' [232] [153] → WRS τ' (chC 0 tbThi w).2 → Q τ') : w_wThird τ Q := sorry
theorem t_wFourth {Q : TT → Prop} (h : WRS τ w) (hw : len w ≤ 31) (hQ : ∀ τ', Fr τ τ' [232] [153] → WRS τ' (foW w) → Q τ') : w_wFourth τ Q := sorry
theorem t_wFifth {Q : TT → Prop} (h : WRS τ w) (hw : len w ≤ 31) (hQ : ∀ τ', Fr τ τ' [232] [153] → WRS τ' (fiB (fiA w)) → Q τ') : w_wFifth τ Q := sorry
end WTF

/-! 98.bk.lean.txt -/
/-! the twin: a stem mended; pieces -/
set_option maxRecDepth 100000
section WMD
variable {τ : TT} {u l s : List Int} {k a e c : Int}
theorem take_sub (hk : 0 ≤ k ∧ k ≤ len u) : u.take k.toNat ++ sub u k (len u) = u := sorry
theorem enB_app (h : enB u s = true) : seW u (len u - len s) s = u := sorry
theorem seW_app {t : List Int} : seW u k (s ++ t) = seW u k s ++ t := by unfold seW; rw [List.append_assoc]
theorem t_wMend {Q : TT → Prop} (h : WRS τ u) (hu : 1 ≤ len u ∧ len u ≤ 30) (hQ : ∀ τ', Fr τ τ' [232] [153] → WRS τ' (psM u) → Q τ') : w_wMend τ Q := sorry
theorem t_wIsSign {Q : Int → TT → Prop} (hc : -2147483648 ≤ c ∧ c < 2147483648) (hQ1 : chJo c → Q 1 τ) (hQ0 : ¬ chJo c → Q 0 τ) : w_wIsSign c τ Q := sorry
/-- a piece ends where the word does, or at the end that is told -/
theorem t_wPieceEnd {Q : Int → TT → Prop} (h : WTX τ l) (ha : 0 ≤ a ∧ a ≤ e ∧ e ≤ len l) (hQ : Q (min e (scn wpB l a)) τ) : w_wPieceEnd a e τ Q := sorry
end WMD

/-! 98.bl.lean.txt -/
/-! the twin: the stemmer's first step -/
set_option maxRecDepth 100000
section WFS
variable {τ : TT} {w u v s t : List Int} {k : Int}
theorem enB_cut (h : enB w (s ++ t) = true) : seW w (len w - len (s ++ t)) s = w.take (len w - len t).toNat := sorry
theorem enB_last (h : enB u s = true) (hs : 1 ≤ len s) : gt u (len u - 1) = gt s (len s - 1) := sorry
theorem t_wFirst {Q : TT → Prop} (h : WRS τ w) (hw : 1 ≤ len w ∧ len w ≤ 30) (hQ : ∀ τ', Fr τ τ' [232] [153] → WRS τ' (yW (psW (pluW w))) → Q τ') : w_wFirst τ Q := sorry
end WFS

/-! 98.bm.lean.txt -/
/-! the twin: a word's stem -/
set_option maxRecDepth 100000
section WSM
variable {τ : TT} {w : List Int}
theorem t_wStem {Q : TT → Prop} (hw : w = seg (τ.2 151) 0 (len w)) (hl : τ.2 149 0 = len w) (hb : 1 ≤ len w ∧ len w ≤ 30)
    (hQ : ∀ τ', Fr τ τ' [232] [150, 152, 153] → τ'.2 150 0 = len (stW w) → seg (τ'.2 152) 0 (len (stW w)) = stW w → Q τ') : w_wStem 0 τ Q := sorry
end WSM

