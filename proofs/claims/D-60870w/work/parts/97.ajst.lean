/-! 97.aa.lean.txt -/
/-! the twin: a value and its words -/
set_option maxRecDepth 100000
/-- the value that is read as words -/
def HVAL (τ : TT) (v : List Int) : Prop := τ.2 81 0 = 0 ∧ τ.2 82 0 = len v ∧ v = seg (τ.2 83) 0 (len v) ∧ byt v ∧ len v ≤ 2000
theorem seg_gt {f : Int → Int} {n k : Int} (h0 : 0 ≤ k) (h1 : k < n) : gt (seg f 0 n) k = f k := sorry
theorem HVAL.rd {τ : TT} {v : List Int} (h : HVAL τ v) {k : Int} (hk : 0 ≤ k ∧ k < len v) : τ.2 83 k = gt v k := sorry
theorem HVAL.fr {τ τ' : TT} {v : List Int} (h : HVAL τ v) (h1 : τ'.2 81 = τ.2 81) (h2 : τ'.2 82 = τ.2 82) (h3 : τ'.2 83 = τ.2 83) : HVAL τ' v := by
  unfold HVAL
  rw [h1, h2, h3]
  exact h
/-- how the twin numbers the kinds of words -/
def kcF (i : Nat) : Int := if i = 13 then 0 else if i = 10 then 1 else if i = 11 then 2 else if i = 12 then 3 else 4
def HW1 (τ : TT) (k : Int) (w : Wo) : Prop := τ.2 84 k = kcF w.1 ∧ (w.1 = 12 → τ.2 85 k = gt w.2 0) ∧ 0 ≤ τ.2 86 k ∧ τ.2 86 k ≤ τ.2 87 k ∧ τ.2 87 k ≤ τ.1 127 ∧ w.2 = seg (τ.2 88) (τ.2 86 k) (τ.2 87 k - τ.2 86 k)
def lnW {α : Type} (l : List α) : Int := (l.length : Int)
/-- the words that were cut -/
def HWS (τ : TT) (ws : List Wo) : Prop := lnW ws = τ.1 121 ∧ (0 ≤ τ.1 127 ∧ τ.1 127 ≤ 2100) ∧ ∀ (n : Nat) (w : Wo), ws[n]? = some w → HW1 τ n w
/-- a word that is being cut -/
def HWO (τ : TT) (ws : List Wo) (i : Nat) (s : Int) (t : List Int) : Prop := HWS τ ws ∧ τ.2 84 (τ.1 121) = kcF i ∧ τ.2 85 (τ.1 121) = s ∧ (0 ≤ τ.2 86 (τ.1 121) ∧ τ.2 86 (τ.1 121) ≤ τ.1 127) ∧ t = seg (τ.2 88) (τ.2 86 (τ.1 121)) (τ.1 127 - τ.2 86 (τ.1 121))
theorem HWS.fr {τ τ' : TT} {ws : List Wo} (h : HWS τ ws) (h1 : τ'.1 121 = τ.1 121) (h2 : τ'.1 127 = τ.1 127) (h4 : τ'.2 84 = τ.2 84) (h5 : τ'.2 85 = τ.2 85) (h6 : τ'.2 86 = τ.2 86) (h7 : τ'.2 87 = τ.2 87) (h8 : τ'.2 88 = τ.2 88) : HWS τ' ws := sorry
theorem HWO.fr {τ τ' : TT} {ws : List Wo} {i : Nat} {s : Int} {t : List Int} (h : HWO τ ws i s t) (h1 : τ'.1 121 = τ.1 121) (h2 : τ'.1 127 = τ.1 127) (h4 : τ'.2 84 = τ.2 84) (h5 : τ'.2 85 = τ.2 85) (h6 : τ'.2 86 = τ.2 86) (h7 : τ'.2 87 = τ.2 87) (h8 : τ'.2 88 = τ.2 88) : HWO τ' ws i s t := sorry
theorem get_lt {α : Type} {l : List α} {n : Nat} {x : α} (h : l[n]? = some x) : n < l.length := by
  rw [List.getElem?_eq_some_iff] at h
  exact h.1
section HBW
variable {τ : TT} {ws : List Wo} {i : Nat} {s : Int} {t : List Int} {Q : TT → Prop}
theorem t_hBeginWord {kc : Int} (h : HWS τ ws) (hl : lnW ws ≤ 2000) (hk : kc = kcF i) (hs : -2147483648 ≤ s ∧ s < 2147483648) (hQ : ∀ τ', Fr τ τ' [] [84, 85, 86] → HWO τ' ws i s [] → Q τ') : w_hBeginWord kc s τ Q := sorry
theorem t_hPut {c : Int} (h : HWO τ ws i s t) (hl : τ.1 127 < 2100) (hc : -2147483648 ≤ c ∧ c < 2147483648) (hQ : ∀ τ', Fr τ τ' [127] [88] → HWO τ' ws i s (t ++ [c]) → τ'.1 127 = τ.1 127 + 1 → Q τ') : w_hPut c τ Q := sorry
theorem t_hEndWord (h : HWO τ ws i s t) (hl : lnW ws ≤ 2000) (hs : i = 12 → s = gt t 0) (hQ : ∀ τ', Fr τ τ' [121] [87] → HWS τ' (ws ++ [(i, t)]) → Q τ') : w_hEndWord τ Q := sorry
end HBW

/-! 97.ab.lean.txt -/
/-! the twin: a value cut into words -/
set_option maxRecDepth 100000
theorem sgn_in {c : Int} (h : 0 ≤ c ∧ c < 256) : (0 ≤ idx chSg c 0) ↔ (c = 60 ∨ c = 62 ∨ c = 58 ∨ c = 59 ∨ c = 64 ∨ c = 44 ∨ c = 46 ∨ c = 41 ∨ c = 93 ∨ c = 92) := sorry
theorem t_hIsNothing {c : Int} {τ : TT} {Q : Int → TT → Prop} (hc : -2147483648 ≤ c ∧ c < 2147483648) (hQ : Q (if chNo c then 1 else 0) τ) : w_hIsNothing c τ Q := sorry
theorem t_hIsSign {c : Int} {τ : TT} {Q : Int → TT → Prop} (hc : 0 ≤ c ∧ c < 256) (h0 : τ.1 138 = 0) (hQ : Q (if 0 ≤ idx chSg c 0 then 1 else 0) τ) : w_hIsSign c τ Q := sorry
/-- where the cutting is: the end of the value, no type -/
def HCU (τ : TT) (v : List Int) (k : Int) : Prop := HVAL τ v ∧ τ.1 136 = k ∧ τ.1 137 = len v ∧ τ.1 138 = 0 ∧ 0 ≤ k ∧ k ≤ len v
theorem HCU.fr {τ τ' : TT} {v : List Int} {k : Int} (h : HCU τ v k) (h1 : τ'.2 81 = τ.2 81) (h2 : τ'.2 82 = τ.2 82) (h3 : τ'.2 83 = τ.2 83) (h4 : τ'.1 136 = τ.1 136) (h5 : τ'.1 137 = τ.1 137) (h6 : τ'.1 138 = τ.1 138) : HCU τ' v k := sorry
theorem t_hLook {v : List Int} {k : Int} {τ : TT} {Q : Int → TT → Prop} (h : HCU τ v k) (hQ : Q (atI v k) τ) : w_hLook τ Q := sorry
theorem HCU.mv {τ : TT} {v : List Int} {k : Int} (h : HCU τ v k) (j : Int) (hj : 0 ≤ j ∧ j ≤ len v) : HCU (τ.s 136 j) v j := sorry
section HCX
variable {v t : List Int} {ws : List Wo} {k : Int} {τ : TT} {Q : TT → Prop}
theorem t_hTakeAtom (h : HCU τ v k) (hw : HWS τ ws) (hk : k < len v) (hp : ptB (gt v k) = true) (hl : lnW ws ≤ 2000) (hb : τ.1 127 ≤ k)
    (hQ : ∀ τ', Fr τ τ' [121, 127, 136] [84, 85, 86, 87, 88] → HCU τ' v (scn ptB v (k + 1)) → HWS τ' (ws ++ [(9, sub v k (scn ptB v (k + 1)))]) → τ'.1 127 ≤ scn ptB v (k + 1) → Q τ') : w_hTakeAtom τ Q := sorry
theorem t_hTakeUp {kc q : Int} {i : Nat} (hi : (kc = 1 ∧ i = 10 ∧ q = 34) ∨ (kc = 2 ∧ i = 11 ∧ q = 93)) (h : HCU τ v k) (hw : HWS τ ws) (hk : k < len v) (hl : lnW ws ≤ 2000) (hb : τ.1 127 ≤ k)
    (hQ : ∀ τ', Fr τ τ' [121, 127, 136] [84, 85, 86, 87, 88] → HCU τ' v (min (upE v q (k + 1) + 1) (len v)) → HWS τ' (ws ++ [(i, upT v q (k + 1))]) → τ'.1 127 ≤ min (upE v q (k + 1) + 1) (len v) → Q τ') : w_hTakeEnclosed kc q τ Q := sorry
theorem t_hTakeCm (h : HCU τ v k) (hw : HWS τ ws) (hk : k < len v) (hl : lnW ws ≤ 2000) (hb : τ.1 127 ≤ k)
    (hQ : ∀ τ', Fr τ τ' [121, 127, 136] [84, 85, 86, 87, 88] → HCU τ' v (min (cmE v (k + 1) 1) (len v)) → HWS τ' (ws ++ [(13, cmT v (k + 1) 1)]) → τ'.1 127 ≤ min (cmE v (k + 1) 1) (len v) → Q τ') : w_hTakeEnclosed 0 41 τ Q := sorry
end HCX
theorem cuA_out {l : List Int} {k : Int} (h : len l ≤ k) : cuA l k = [] := sorry
theorem t_hCut {v : List Int} {τ : TT} {Q : TT → Prop} (h : HVAL τ v)
    (hQ : ∀ τ', Fr τ τ' [121, 127, 136, 137, 138] [84, 85, 86, 87, 88] → HWS τ' (cuA v 0) → Q τ') : w_hCut 0 0 τ Q := sorry
/-! 97.ac.lean.txt -/
/-! the twin: words but comments, one after the other -/
set_option maxRecDepth 100000
theorem scn_pos {l : List Int} {k : Int} (h : 0 ≤ k ∧ k < len l) : 0 < len (sub l k (scn ptB l (k + 1))) := sorry
/-- what holds of each word -/
def wKd (w : Wo) : Prop := 9 ≤ w.1 ∧ w.1 < 14 ∧ (w.1 = 9 → 0 < len w.2) ∧ (w.1 = 12 → len w.2 = 1)
theorem cuA_kd {l : List Int} : ∀ (N : Nat) (k : Int), (len l - k).toNat = N → 0 ≤ k → ∀ w, w ∈ cuA l k → wKd w := sorry
/-- the words that were cut, with all that holds of them -/
def HWZ (τ : TT) (W : List Wo) : Prop := HWS τ W ∧ (∀ w, w ∈ W → wKd w ∧ byt w.2) ∧ lnW W ≤ 2000
theorem HWZ.fr {τ τ' : TT} {W : List Wo} (h : HWZ τ W) (h1 : τ'.1 121 = τ.1 121) (h2 : τ'.1 127 = τ.1 127) (h4 : τ'.2 84 = τ.2 84) (h5 : τ'.2 85 = τ.2 85) (h6 : τ'.2 86 = τ.2 86) (h7 : τ'.2 87 = τ.2 87) (h8 : τ'.2 88 = τ.2 88) : HWZ τ' W := ⟨h.1.fr h1 h2 h4 h5 h6 h7 h8, h.2⟩
theorem HWZ.frF {τ τ' : TT} {W : List Wo} {sc ar : List Int} (h : HWZ τ W) (hF : Fr τ τ' sc ar) (hs : ([121, 127].all fun k => !sc.contains k) = true := by rfl) (ha : ([84, 85, 86, 87, 88].all fun k => !ar.contains k) = true := by rfl) : HWZ τ' W := sorry
theorem t_hCutZ {v : List Int} {τ : TT} {Q : TT → Prop} (h : HVAL τ v)
    (hQ : ∀ τ', Fr τ τ' [121, 127, 136, 137, 138] [84, 85, 86, 87, 88] → HWZ τ' (cuA v 0) → Q τ') : w_hCut 0 0 τ Q := sorry
section HWX
variable {τ : TT} {W : List Wo} {k b c : Int}
theorem HWZ.at (h : HWZ τ W) (hk : 0 ≤ k ∧ k < lnW W) : HW1 τ k (wo W k) ∧ wKd (wo W k) ∧ byt (wo W k).2 := sorry
theorem kcF_0 {w : Wo} (h : wKd w) : kcF w.1 = 0 ↔ w.1 = 13 := sorry
theorem kcF_3 {w : Wo} (h : wKd w) : kcF w.1 = 3 ↔ w.1 = 12 := sorry
theorem kcF_4 {w : Wo} (h : wKd w) : kcF w.1 = 4 ↔ w.1 = 9 := sorry
theorem kcF_1 {w : Wo} (h : wKd w) : kcF w.1 = 1 ↔ w.1 = 10 := sorry
theorem kcF_2 {w : Wo} (h : wKd w) : kcF w.1 = 2 ↔ w.1 = 11 := sorry
theorem hw_len {w : Wo} (h : HW1 τ k w) : len w.2 = τ.2 87 k - τ.2 86 k := sorry
theorem hw_ch {w : Wo} (h : HW1 τ k w) {i : Int} (hi : 0 ≤ i ∧ i < len w.2) : τ.2 88 (τ.2 86 k + i) = gt w.2 i := sorry
end HWX
/-- the next word that is no comment -/
def nxW (W : List Wo) (k b : Int) : Int := if h : k < b then if (wo W k).1 = 13 then nxW W (k + 1) b else k else k
termination_by (b - k).toNat
/-- words but comments -/
def fl (W : List Wo) (k b : Int) : List Wo := if h : k < b then if (wo W k).1 = 13 then fl W (k + 1) b else wo W k :: fl W (k + 1) b else []
termination_by (b - k).toNat
section NXF
variable {W : List Wo} {k b : Int}
theorem nx_end (h : b ≤ k) : nxW W k b = k := sorry
theorem fl_end (h : b ≤ k) : fl W k b = [] := sorry
theorem nx_c (h : k < b) (hc : (wo W k).1 = 13) : nxW W k b = nxW W (k + 1) b := by rw [nxW, dif_pos h, if_pos hc]
theorem nx_n (h : k < b) (hc : ¬ (wo W k).1 = 13) : nxW W k b = k := by rw [nxW, dif_pos h, if_neg hc]
theorem fl_c (h : k < b) (hc : (wo W k).1 = 13) : fl W k b = fl W (k + 1) b := by rw [fl, dif_pos h, if_pos hc]
theorem fl_n (h : k < b) (hc : ¬ (wo W k).1 = 13) : fl W k b = wo W k :: fl W (k + 1) b := by rw [fl, dif_pos h, if_neg hc]
theorem nx_all : ∀ (N : Nat) (k : Int), (b - k).toNat = N → k ≤ nxW W k b ∧ nxW W k b ≤ max k b ∧ (nxW W k b < b → ¬ (wo W (nxW W k b)).1 = 13) ∧ fl W (nxW W k b) b = fl W k b ∧ (∀ j, k ≤ j → j < nxW W k b → (wo W j).1 = 13) := sorry
theorem fl_at (h : nxW W k b < b) : fl W k b = wo W (nxW W k b) :: fl W (nxW W k b + 1) b := sorry
theorem fl_no (h : b ≤ nxW W k b) : fl W k b = [] := sorry
theorem fl_woC : ∀ (N : Nat) (k : Int), (lnW W - k).toNat = N → 0 ≤ k → fl W k (lnW W) = woC (W.drop k.toNat) := sorry
end NXF
section HNX
variable {τ : TT} {W : List Wo} {k b c : Int}
theorem t_hIs {Q : Int → TT → Prop} (h : HWZ τ W) (hk : 0 ≤ k ∧ k < lnW W) (hc : -2147483648 ≤ c ∧ c < 2147483648) (hQ : Q (if isG (wo W k) c then 1 else 0) τ) : w_hIs k c τ Q := sorry
theorem t_hNext {Q : Int → TT → Prop} (h : HWZ τ W) (hk : 0 ≤ k ∧ k ≤ 100000) (hb : 0 ≤ b ∧ b ≤ lnW W) (hQ : Q (nxW W k b) τ) : w_hNext k b τ Q := sorry
theorem t_hLongOf {Q : Int → TT → Prop} (h : HWZ τ W) (hk : 0 ≤ k ∧ k < lnW W) (hQ : Q (len (wo W k).2) τ) : w_hLongOf k τ Q := sorry
theorem t_hIsDigit {Q : Int → TT → Prop} (hc : -2147483648 ≤ c ∧ c < 2147483648) (hQ : Q (if chDg c then 1 else 0) τ) : w_hIsDigit c τ Q := sorry
end HNX

/-! 97.ad.lean.txt -/
/-! the twin: dates, their parts -/
set_option maxRecDepth 100000
theorem t_hSmall {c : Int} {τ : TT} {Q : Int → TT → Prop} (hc : -2147483000 ≤ c ∧ c < 2147483000) (hQ : Q (lowB c) τ) : w_hSmall c τ Q := sorry
/-- a word at hand -/
def PW (W : List Wo) (p : Int) (us : List Wo) : Prop := 0 ≤ p ∧ us = fl W p (lnW W) ∧ (p < lnW W → ¬ (wo W p).1 = 13)
section PWX
variable {τ : TT} {W us : List Wo} {p : Int}
theorem pw_hd (h : PW W p us) : (p < lnW W ∧ us = wo W p :: fl W (p + 1) (lnW W)) ∨ (lnW W ≤ p ∧ us = []) := sorry
theorem pw_nx (h : PW W p us) : PW W (nxW W (p + 1) (lnW W)) us.tail ∧ nxW W (p + 1) (lnW W) ≤ max (p + 1) (lnW W) := sorry
theorem pw_at0 : PW W (nxW W 0 (lnW W)) (fl W 0 (lnW W)) := sorry
/-- the atom at hand: nothing, or the word there -/
theorem pw_atom (h : PW W p us) : (p < lnW W ∧ (wo W p).1 = 9 ∧ datom us = ((wo W p).2, us.tail)) ∨ ((p < lnW W → ¬ (wo W p).1 = 9) ∧ datom us = ([], us)) := sorry
theorem t_hStep {Q : TT → Prop} (h : HWZ τ W) (hp : PW W p us) (e : τ.1 141 = p) (hb : p ≤ 90000) (hQ : ∀ τ' p', Fr τ τ' [141] [] → PW W p' us.tail → τ'.1 141 = p' → p' ≤ max (p + 1) (lnW W) → Q τ') : w_hStep τ Q := sorry
theorem t_hIsDigits {a b : Int} {Q : Int → TT → Prop} (h : HWZ τ W) (hp : PW W p us) (hb : p ≤ 100000) (ha : 1 ≤ a ∧ a ≤ 100) (hbb : 1 ≤ b ∧ b ≤ 100) (hQ : Q (if a ≤ len (datom us).1 ∧ len (datom us).1 ≤ b ∧ digB (datom us).1 = true then 1 else 0) τ) : w_hIsDigits p a b τ Q := sorry
/-- a number, a million at most -/
def nm7 (v : Int) (l : List Int) : Int := l.foldl (fun x c => if 100000 < x then x else 10 * x + c - 48) v
theorem t_hNumberOf {a b : Int} {Q : Int → TT → Prop} (ha : 0 ≤ a ∧ a ≤ b ∧ b ≤ 2100) (hd : ∀ i, a ≤ i → i < b → chDg (τ.2 88 i)) (hQ : Q (nm7 0 (seg (τ.2 88) a (b - a))) τ) : w_hNumberOf a b τ Q := sorry
def nmU (v : Int) (l : List Int) : Int := l.foldl (fun x c => 10 * x + c - 48) v
theorem nm7_or : ∀ (l : List Int) (v u : Int), (∀ c, c ∈ l → chDg c) → 0 ≤ v → (v = u ∨ (100000 < v ∧ 100000 < u)) → (nm7 v l = nmU u l ∨ (100000 < nm7 v l ∧ 100000 < nmU u l)) := sorry
theorem nmU_in : ∀ (l : List Int) (v : Int), (∀ c, c ∈ l → chDg c) → 0 ≤ v → 0 ≤ nmU v l ∧ nmU v l < (v + 1) * 10 ^ l.length := sorry
theorem digB_allT {l : List Int} (h : digB l = true) : ∀ c, c ∈ l → chDg c := sorry
theorem nmB_U {l : List Int} (h : len l ≤ 9) : nmB l = nmU 0 l := sorry
theorem nm7_sm {l : List Int} (hd : ∀ c, c ∈ l → chDg c) (h : len l ≤ 3) : nm7 0 l = nmB l ∧ 0 ≤ nmB l ∧ nmB l < 1000 := sorry
theorem t_hNumber {Q : Int → TT → Prop} (h : HWZ τ W) (hp : 0 ≤ p ∧ p < lnW W) (hd : ∀ c, c ∈ (wo W p).2 → chDg c) (hQ : Q (nm7 0 (wo W p).2) τ) : w_hNumber p τ Q := sorry
theorem t_hTwo {x : Int} {Q : Int → TT → Prop} (h : HWZ τ W) (hp : PW W p us) (e : τ.1 141 = p) (hb : p ≤ 100000) (hx : 0 ≤ x ∧ x ≤ 100) (hQ : Q (twF (datom us).1 x) τ) : w_hTwo x τ Q := sorry
theorem t_hYearOf {Q : Int → TT → Prop} (h : HWZ τ W) (hp : PW W p us) (hb : p ≤ 100000) (hQ : ∀ y, (y = yrF (datom us).1 ∨ (2999 < y ∧ 2999 < yrF (datom us).1)) → Q y τ) : w_hYearOf p τ Q := sorry
theorem t_hIsThree {C a b c : Int} {Q : Int → TT → Prop} (h : HWZ τ W) (hp : 0 ≤ p ∧ p < lnW W) (h3 : 3 ≤ len (wo W p).2) (h0 : shrI C (16 - (8 * 0)) % 256 = a) (h1 : shrI C (16 - (8 * (0 + 1))) % 256 = b) (h2 : shrI C (16 - (8 * (0 + 1 + 1))) % 256 = c)
    (hQ : Q (if (sub (wo W p).2 0 3).map lowB = [a, b, c] then 1 else 0) τ) : w_hIsThree p 0 C τ Q := sorry
theorem t_hMonthOf {Q : Int → TT → Prop} (h : HWZ τ W) (hp : PW W p us) (hb : p ≤ 100000) (hQ : Q (if moF (datom us).1 < 0 then 0 else moF (datom us).1) τ) : w_hMonthOf p τ Q := sorry
end PWX

/-! 97.ae.lean.txt -/
/-! the twin: dates, the number of a day, the zone -/
set_option maxRecDepth 100000
theorem t_hIsLeap {y : Int} {τ : TT} {Q : Int → TT → Prop} (hy : -2147483648 ≤ y ∧ y < 2147483648) (hQ : Q (if leapP y then 1 else 0) τ) : w_hIsLeap y τ Q := sorry
theorem t_hDaysOf {m y : Int} {τ : TT} {Q : Int → TT → Prop} (hm : -2147483648 ≤ m ∧ m < 2147483648) (hy : -2147483648 ≤ y ∧ y < 2147483648) (hQ : Q (mdF y m) τ) : w_hDaysOf m y τ Q := sorry
/-- the days before a year, from 1970 on -/
def ysF (y : Int) : Int := 365 * (y - 1970) + Int.tdiv (y - 1) 4 - Int.tdiv (y - 1) 100 + Int.tdiv (y - 1) 400 - 477
theorem ysF_s {y : Int} (h : 1 ≤ y) : ysF (y + 1) = ysF y + (if leapP y then 366 else 365) := sorry
theorem mdF_inT (y m : Int) : 28 ≤ mdF y m ∧ mdF y m ≤ 31 := sorry
theorem dyL_inT {y m : Int} : ∀ (N : Nat) (n k : Int), (m - k).toNat = N → n ≤ dyL y m n k ∧ dyL y m n k ≤ n + 31 * N := sorry
theorem t_hDayNumber {t m y : Int} {τ : TT} {Q : Int → TT → Prop} (ht : 0 ≤ t ∧ t ≤ 100) (hm : 0 ≤ m ∧ m ≤ 13) (hy : 1900 ≤ y ∧ y ≤ 2999) (hQ : Q (dyF y m t) τ) : w_hDayNumber t m y τ Q := sorry
/-! 97.af.lean.txt -/
/-! the twin: zones, dates whole -/
set_option maxRecDepth 100000
section ZNX
variable {τ : TT} {W us : List Wo} {p : Int}
theorem sub_3 {l : List Int} (h : len l = 3) : sub l 0 3 = l := by rw [← h]; exact sub_all
theorem seg_sub {f : Int → Int} {a n i j : Int} {l : List Int} (h : l = seg f a n) (hi : 0 ≤ i ∧ i ≤ j ∧ j ≤ n) : seg f (a + i) (j - i) = sub l i j := sorry
theorem t_hZoneOf {Q : Int → TT → Prop} (h : HWZ τ W) (hp : PW W p us) (hb : p ≤ 100000) (hQ : Q (60 * znF (datom us).1) τ) : w_hZoneOf p τ Q := sorry
end ZNX
theorem dr53_mo {day : Int} {us : List Wo} (h : moF (datom us).1 < 0) : dr53 day us = MINL := sorry
theorem dr53_dy {day : Int} {us : List Wo} (h : day < 1) : dr53 day us = MINL := sorry
theorem dr53_yr {day : Int} {us : List Wo} (h : yrF (datom (datom us).2).1 < 1900 ∨ 2999 < yrF (datom (datom us).2).1) : dr53 day us = MINL := sorry
theorem dr53_md {day : Int} {us : List Wo} (h : mdF (yrF (datom (datom us).2).1) (moF (datom us).1) < day) : dr53 day us = MINL := sorry
theorem dr99_h {day mo yr h : Int} {us : List Wo} (hh : h < 0) : dr99 day mo yr h us = MINL := sorry
theorem dr99_m {day mo yr h : Int} {us : List Wo} (hh : twF (datom us).1 60 < 0) : dr99 day mo yr h us = MINL := sorry
theorem yrF_nil : yrF [] = -1 := sorry
theorem twF_inT {l : List Int} {x : Int} : -1 ≤ twF l x ∧ (twF l x < x ∨ twF l x = -1) := sorry
theorem mo3_inT (t : List Int) : ∀ x, x = mo3 t → -1 ≤ x ∧ x ≤ 12 ∧ x ≠ 0 := sorry
theorem moF_in (l : List Int) : -1 ≤ moF l ∧ moF l ≤ 12 ∧ moF l ≠ 0 := sorry
theorem znF_inT (l : List Int) : -1440 ≤ znF l ∧ znF l ≤ 1440 := sorry
theorem dyF_in {y m t : Int} (hy : 1900 ≤ y ∧ y ≤ 2999) (hm : 0 ≤ m ∧ m ≤ 13) (ht : 0 ≤ t ∧ t ≤ 100) : -1000000 ≤ dyF y m t ∧ dyF y m t ≤ 1000000 := sorry
section DTX
variable {τ0 τ : TT} {W us : List Wo} {p : Int} {Q : Int → TT → Prop} {R : Int}
/-- where a date's reading stands -/
def DW (τ0 τ : TT) (W : List Wo) (p B : Int) (us : List Wo) : Prop := HWZ τ W ∧ PW W p us ∧ τ.1 141 = p ∧ p ≤ B ∧ 2000 ≤ B ∧ B ≤ 3000 ∧ Fr τ0 τ [121, 127, 136, 137, 138, 141] [84, 85, 86, 87, 88]
theorem DW.step {B : Int} {Q : TT → Prop} (h : DW τ0 τ W p B us) (hB : B ≤ 2999) (hQ : ∀ τ' p', DW τ0 τ' W p' (B + 1) us.tail → Q τ') : w_hStep τ Q := sorry
theorem t_hDate {v : List Int} (h : HVAL τ v) (hQ : ∀ τ', Fr τ τ' [121, 127, 136, 137, 138, 141] [84, 85, 86, 87, 88] → Q (drF (woC (cuA v 0))) τ') : w_hDate 0 τ Q := sorry
end DTX

/-! 97.ag.lean.txt -/
/-! the twin: rows of bytes that reading makes -/
set_option maxRecDepth 100000
def arF (w : Int) : Int := if w < 4 then 0 else if w = 4 then 1 else 2
def topF (τ : TT) (w : Int) : Int := 6000 * arF w + τ.2 90 (arF w)
def RWA (τ : TT) (i : Int) (r : List Int) (top : Int) : Prop := τ.2 93 i = len r ∧ 0 ≤ τ.2 92 i ∧ τ.2 92 i + len r ≤ top ∧ r = seg (τ.2 89) (τ.2 92 i) (len r)
/-- the rows of a sort -/
def PRT (τ : TT) (w : Int) (rows : List (List Int)) : Prop := τ.2 91 w = lnW rows ∧ lnW rows ≤ 1000 ∧ 0 ≤ τ.2 90 (arF w) ∧ ∀ (n : Nat) (r : List Int), rows[n]? = some r → RWA τ (1000 * w + n) r (topF τ w)
/-- a row that is being made -/
def PRO (τ : TT) (w : Int) (rows : List (List Int)) (t : List Int) : Prop := PRT τ w rows ∧ lnW rows < 1000 ∧ RWA τ (1000 * w + lnW rows) t (topF τ w) ∧ τ.2 92 (1000 * w + lnW rows) + len t = topF τ w
/-- what making rows of a sort keeps -/
def PKp (τ τ' : TT) (w : Int) : Prop := Fr τ τ' [] [89, 90, 91, 92, 93] ∧ (∀ v, v ≠ w → τ'.2 91 v = τ.2 91 v) ∧ (∀ i, (i < 1000 * w ∨ 1000 * w + 1000 ≤ i) → τ'.2 92 i = τ.2 92 i ∧ τ'.2 93 i = τ.2 93 i) ∧ (∀ j, j < topF τ w → τ'.2 89 j = τ.2 89 j) ∧ τ.2 90 (arF w) ≤ τ'.2 90 (arF w) ∧ ∀ a, a ≠ arF w → τ'.2 90 a = τ.2 90 a
section PRX
variable {τ τ' τ'' : TT} {w v : Int} {rows : List (List Int)} {t : List Int}
theorem PKp.rf : PKp τ τ w := sorry
theorem PKp.tr (h : PKp τ τ' w) (h2 : PKp τ' τ'' w) : PKp τ τ'' w := sorry
theorem PKp.prt (h : PKp τ τ' w) (hv : v ≠ w) (ha : arF v = arF w) (hp : PRT τ v rows) : PRT τ' v rows := sorry
theorem PKp.prS (h : PKp τ τ' w) (hv : v ≠ w) (ha : arF v = arF w) (hp : PRT τ v rows) : PRT τ' v rows := h.prt hv ha hp
end PRX
section PRY
variable {τ : TT} {w c : Int} {rows : List (List Int)} {t : List Int}
theorem ar_in (w : Int) : 0 ≤ arF w ∧ arF w < 3 := sorry
theorem t_hAreaOf {Q : Int → TT → Prop} (hw : 0 ≤ w ∧ w < 7) (hQ : Q (arF w) τ) : w_hAreaOf w τ Q := sorry
theorem t_hRoomAt {Q : Int → TT → Prop} (hw : 0 ≤ w ∧ w < 7) (hb : -100000 ≤ topF τ w ∧ topF τ w ≤ 100000) (hQ : Q (topF τ w) τ) : w_hRoomAt w τ Q := sorry
theorem t_hBeginPart {Q : TT → Prop} (hw : 0 ≤ w ∧ w < 7) (h : PRT τ w rows) (hl : lnW rows < 1000) (hb : topF τ w ≤ 100000) (hQ : ∀ τ', PKp τ τ' w → PRO τ' w rows [] → τ'.2 90 (arF w) = τ.2 90 (arF w) → Q τ') : w_hBeginPart w τ Q := sorry
theorem t_hAdd {Q : TT → Prop} (hw : 0 ≤ w ∧ w < 7) (h : PRO τ w rows t) (hb : topF τ w < 20000) (hc : -2147483648 ≤ c ∧ c < 2147483648) (hQ : ∀ τ', PKp τ τ' w → PRO τ' w rows (t ++ [c]) → τ'.2 90 (arF w) = τ.2 90 (arF w) + 1 → Q τ') : w_hAdd w c τ Q := sorry
theorem t_hEndPart {Q : TT → Prop} (hw : 0 ≤ w ∧ w < 7) (h : PRO τ w rows t) (hQ : ∀ τ', PKp τ τ' w → PRT τ' w (rows ++ [t]) → τ'.2 90 (arF w) = τ.2 90 (arF w) → Q τ') : w_hEndPart w τ Q := sorry
theorem t_hAddWord {W : List Wo} {k : Int} {Q : TT → Prop} (hw : 0 ≤ w ∧ w < 7) (hz : HWZ τ W) (hk : 0 ≤ k ∧ k < lnW W) (h : PRO τ w rows t) (hb : topF τ w + len (wo W k).2 ≤ 20000)
    (hQ : ∀ τ', PKp τ τ' w → PRO τ' w rows (t ++ (wo W k).2) → τ'.2 90 (arF w) = τ.2 90 (arF w) + len (wo W k).2 → Q τ') : w_hAddWord w k τ Q := sorry
theorem t_hForget {a b ar : Int} {Q : TT → Prop} (ha : 0 ≤ a ∧ a ≤ b ∧ b < 7) (har : 0 ≤ ar ∧ ar < 3) (hQ : ∀ τ', Fr τ τ' [] [90, 91] → (∀ w, a ≤ w → w ≤ b → τ'.2 91 w = 0) → τ'.2 90 ar = 0 → Q τ') : w_hForget a b ar τ Q := sorry
theorem PRT.new {w : Int} (h : τ.2 91 w = 0) (h0 : 0 ≤ τ.2 90 (arF w)) : PRT τ w [] := sorry
end PRY

/-! 97.ah.lean.txt -/
/-! the twin: addresses, what words are: names, rows, specs -/
set_option maxRecDepth 100000
section FLX
variable {W : List Wo}
theorem fl_app {e b : Int} : ∀ (N : Nat) (a : Int), (e - a).toNat = N → a ≤ e → e ≤ b → fl W a b = fl W a e ++ fl W e b := sorry
end FLX
/-- words from one to another -/
def sl (us : List Wo) (k t : Int) : List Wo := (us.drop k.toNat).take (t - k).toNat
section SLX
variable {us : List Wo} {k t e : Int}
theorem wo_get (h : 0 ≤ k ∧ k < lnW us) : us[k.toNat]? = some (wo us k) := sorry
theorem sl_nil (h : t ≤ k) : sl us k t = [] := sorry
theorem sl_cons (h : 0 ≤ k ∧ k < t ∧ t ≤ lnW us) : sl us k t = wo us k :: sl us (k + 1) t := sorry
theorem sl_app : ∀ (N : Nat) (k : Int), (e - k).toNat = N → 0 ≤ k → k ≤ e → e ≤ t → t ≤ lnW us → sl us k t = sl us k e ++ sl us e t := sorry
theorem sl_all : sl us 0 (lnW us) = us := sorry
theorem wo_mem (h : 0 ≤ k ∧ k < lnW us) : wo us k ∈ us := List.mem_of_getElem? (wo_get h)
end SLX
/-- a word of a row with dots -/
abbrev roW (y : Int) (w : Wo) : Prop := w.1 = 9 ∨ ¬ y = 0 ∧ (w.1 = 9 ∨ w.1 = 10)
/-- what is left behind a row of words with dots between -/
def rwE (y : Int) : List Wo → List Wo
  | d :: x :: r => if isG d 46 ∧ roW y x then rwE y r else d :: x :: r
  | [d] => [d]
  | [] => []
/-- words as text, literals with their brackets -/
def mkTw : List Wo → List Int
  | [] => []
  | w :: r => (if w.1 = 11 then [91] ++ w.2 ++ [93] else w.2) ++ mkTw r
/-- a sign of a word's own character -/
def sg1 (us : List Wo) : Prop := ∀ w, w ∈ us → w.1 = 12 → len w.2 = 1
theorem sg_tx {w : Wo} {c : Int} (h : isG w c) (h1 : len w.2 = 1) : w.2 = [c] := sorry
theorem rw_ro {y : Int} {w : Wo} (h : roW y w) : w.1 ≠ 11 := sorry
section DTE
variable {us : List Wo} {t y : Int}
theorem dtE_rw (hs : sg1 us) (ht : t ≤ lnW us) : ∀ (N : Nat) (k : Int), (t - k).toNat = N → 0 ≤ k → k < t → roW y (wo us k) →
    (∃ e, dtE us t y k = e ∧ k < e ∧ e ≤ t ∧ rwE y (sl us (k + 1) t) = sl us e t ∧ dtT us t y k = mkTw (sl us k e) ∧ ∀ j, k ≤ j → j < e → roW y (wo us j) ∨ isG (wo us j) 46) ∨ (dtE us t y k = -1 ∧ ∃ d q, rwE y (sl us (k + 1) t) = d :: q ∧ isG d 46) := sorry
theorem dtE_no {k : Int} (h : ¬ (k < t ∧ roW y (wo us k))) : dtE us t y k = -1 := by rw [dtE, dif_neg h]
/-- a word that may be in an address -/
def okS (w : Wo) : Prop := w.1 = 12 → gt w.2 0 = 46 ∨ gt w.2 0 = 64
theorem ok_ro {w : Wo} (h : roW y w ∨ isG w 46) : okS w := sorry
end DTE
section SPS
variable {us : List Wo} {f t : Int}
theorem spS_ok (hs : sg1 us) (ht : t ≤ lnW us) (hf : 0 ≤ f) (h : spS us f t ≠ none) : ∀ j, f ≤ j → j < t → okS (wo us j) := sorry
end SPS
section ADW
variable {τ : TT} {W us : List Wo} {a b f t k q : Int}
theorem t_hIsRowWord {Q : Int → TT → Prop} (h : HWZ τ W) (hk : 0 ≤ k ∧ k ≤ 100000) (hb : 0 ≤ b ∧ b ≤ lnW W) (hq : 0 ≤ q ∧ q ≤ 1) (hQ : Q (if k < b ∧ roW q (wo W k) then 1 else 0) τ) : w_hIsRowWord k b q τ Q := sorry
def plB (w : Wo) : Bool := decide (plW w)
theorem t_hIsName {Q : Int → TT → Prop} (h : HWZ τ W) (ha : 0 ≤ a ∧ a ≤ b ∧ b ≤ lnW W) (hQ : Q (if fl W a b ≠ [] ∧ (fl W a b).all plB = true then 1 else 0) τ) : w_hIsName a b τ Q := sorry
theorem t_hRowEnd {Q : Int → TT → Prop} (h : HWZ τ W) (ha : 0 ≤ a ∧ a ≤ b ∧ b ≤ lnW W) (hq : 0 ≤ q ∧ q ≤ 1)
    (hQ0 : (∀ w r, fl W a b = w :: r → ¬ roW q w) → Q a τ) (hQ1 : ∀ w r e, fl W a b = w :: r → roW q w → a < e → e ≤ b → fl W e b = rwE q r → Q e τ) : w_hRowEnd a b q τ Q := sorry
theorem t_hIsSpec {Q : Int → TT → Prop} (h : HWZ τ W) (ha : 0 ≤ a ∧ a ≤ b ∧ b ≤ lnW W) (hu : fl W a b = sl us f t) (hf : 0 ≤ f ∧ f ≤ t ∧ t ≤ lnW us) (hs : sg1 us) (hQ0 : spS us f t = none → ∀ τ', Fr τ τ' [139, 140] [] → Q 0 τ')
    (hQ1 : ∀ lo dm, spS us f t = some (lo, dm) → ∀ τ', Fr τ τ' [139, 140] [] → (a ≤ τ'.1 139 ∧ τ'.1 139 ≤ b) → (a ≤ τ'.1 140 ∧ τ'.1 140 ≤ b) → mkTw (fl W a (τ'.1 139)) = lo → mkTw (fl W (τ'.1 140) b) = dm → Q 1 τ') : w_hIsSpec a b τ Q := sorry
end ADW

/-! 97.ai.lean.txt -/
/-! the twin: addresses, rows made of words -/
set_option maxRecDepth 100000
/-- a title of words -/
def nmT : List Wo → Bool → List Int
  | [], _ => []
  | w :: r, s => ((if s = true ∧ ¬ isG w 46 then [32] else []) ++ w.2) ++ nmT r true
theorem nmT_len : ∀ (us : List Wo) (s : Bool), len (nmT us s) ≤ wsum us := sorry
theorem mkT_len : ∀ (us : List Wo), len (mkTw us) ≤ 2 * wsum us := sorry
theorem ttF_nm {us : List Wo} {n : Int} (hn : n ≤ lnW us) : ∀ (N : Nat) (k : Int), (n - k).toNat = N → 0 ≤ k → ttF us n k = nmT (sl us k n) (decide (0 < k)) := sorry
/-- the last comment of a stretch -/
def lcF (W : List Wo) (k b : Int) (c : List Int) : List Int := if h : k < b then lcF W (k + 1) b (if (wo W k).1 = 13 then (wo W k).2 else c) else c
termination_by (b - k).toNat
/-- what all words of a stretch may give -/
def wsR (W : List Wo) (a b : Int) : Int := if h : a < b then len (wo W a).2 + 1 + wsR W (a + 1) b else 0
termination_by (b - a).toNat
section WSR
variable {W : List Wo}
theorem wsR_nn {b : Int} : ∀ (N : Nat) (a : Int), (b - a).toNat = N → 0 ≤ wsR W a b ∧ wsum (fl W a b) ≤ wsR W a b := sorry
theorem wsR_app {e b : Int} : ∀ (N : Nat) (a : Int), (e - a).toNat = N → a ≤ e → e ≤ b → wsR W a b = wsR W a e + wsR W e b := sorry
theorem wsR_at {a k b : Int} (h : a ≤ k ∧ k < b) : len (wo W k).2 + 1 ≤ wsR W a b := sorry
theorem wsR_all : ∀ (N : Nat) (k : Int), (lnW W - k).toNat = N → 0 ≤ k → wsR W k (lnW W) = wsum (W.drop k.toNat) := sorry
end WSR
section MKX
variable {τ : TT} {W : List Wo} {a b w : Int} {rows : List (List Int)}
theorem PKp.hz {τ' : TT} (h : PKp τ τ' w) (hz : HWZ τ W) : HWZ τ' W := hz.frF h.1
theorem PKp.tp {τ' : TT} {d : Int} (e : τ'.2 90 (arF w) = τ.2 90 (arF w) + d) : topF τ' w = topF τ w + d := sorry
theorem t_hMakeName {Q : TT → Prop} (hw : 0 ≤ w ∧ w < 7) (hz : HWZ τ W) (ha : 0 ≤ a ∧ a ≤ b ∧ b ≤ lnW W) (h : PRT τ w rows) (hr : lnW rows < 1000) (hb : topF τ w + wsum (fl W a b) < 20000)
    (hQ : ∀ τ', PKp τ τ' w → PRT τ' w (rows ++ [nmT (fl W a b) false]) → τ'.2 90 (arF w) ≤ τ.2 90 (arF w) + wsum (fl W a b) → Q τ') : w_hMakeName w a b τ Q := sorry
theorem t_hMakeWords {Q : TT → Prop} (hw : 0 ≤ w ∧ w < 7) (hz : HWZ τ W) (ha : 0 ≤ a ∧ a ≤ b ∧ b ≤ lnW W) (h : PRT τ w rows) (hr : lnW rows < 1000) (hb : topF τ w + 2 * wsum (fl W a b) < 20000)
    (hQ : ∀ τ', PKp τ τ' w → PRT τ' w (rows ++ [mkTw (fl W a b)]) → τ'.2 90 (arF w) ≤ τ.2 90 (arF w) + 2 * wsum (fl W a b) → Q τ') : w_hMakeWords w a b τ Q := sorry
theorem t_hMakeComment {Q : TT → Prop} (hz : HWZ τ W) (ha : 0 ≤ a ∧ a ≤ b ∧ b ≤ lnW W) (h : PRT τ 0 rows) (hr : lnW rows < 1000) (hb : topF τ 0 + wsR W a b < 20000)
    (hQ : ∀ τ', PKp τ τ' 0 → PRT τ' 0 (rows ++ [lcF W (nxW W a b + 1) b []]) → τ'.2 90 0 ≤ τ.2 90 0 + wsR W a b → Q τ') : w_hMakeComment a b τ Q := sorry
end MKX

/-! 97.aj.lean.txt -/
/-! the twin: what was gathered is a mailbox -/
set_option maxRecDepth 100000
theorem fr_s {τ : TT} (k x : Int) : Fr τ (τ.s k x) [k] [] := sorry
theorem fr_a {τ : TT} (i j x : Int) : Fr τ (τ.a i j x) [] [i] := sorry
/-- the number of words but comments ahead of a place -/
def rk (W : List Wo) (a k : Int) : Int := lnW (fl W a k)
section RKX
variable {W us : List Wo} {a b k m f t : Int}
theorem lnW_app {α : Type} {l r : List α} : lnW (l ++ r) = lnW l + lnW r := sorry
theorem lnW_nn {α : Type} {l : List α} : 0 ≤ lnW l := Int.natCast_nonneg _
theorem sl_mid {p q r : List Wo} : sl (p ++ q ++ r) (lnW p) (lnW p + lnW q) = q := sorry
theorem fl_sl (h : a ≤ k ∧ k ≤ m ∧ m ≤ b) : fl W k m = sl (fl W a b) (rk W a k) (rk W a m) ∧ rk W a m = rk W a k + lnW (fl W k m) ∧ rk W a b = rk W a m + lnW (fl W m b) := sorry
theorem rk_a : rk W a a = 0 := by unfold rk; rw [fl_end (Int.le_refl _)]; rfl
theorem fl_1 (hc : ¬ (wo W k).1 = 13) : fl W k (k + 1) = [wo W k] := sorry
theorem fl_1c (hc : (wo W k).1 = 13) : fl W k (k + 1) = [] := sorry
theorem rk_s (h : a ≤ k) (hc : ¬ (wo W k).1 = 13) : rk W a (k + 1) = rk W a k + 1 := sorry
theorem rk_c (h : a ≤ k) (hc : (wo W k).1 = 13) : rk W a (k + 1) = rk W a k := sorry
theorem rk_nn : 0 ≤ rk W a k := lnW_nn
theorem sl_1 {us : List Wo} {x : Wo} {j : Int} (h0 : 0 ≤ j) (h1 : j < lnW us) (h : sl us j (j + 1) = [x]) : wo us j = x := sorry
theorem wo_rk (h : a ≤ k ∧ k < b) (hc : ¬ (wo W k).1 = 13) : wo (fl W a b) (rk W a k) = wo W k ∧ rk W a k < lnW (fl W a b) := sorry
theorem rk_le (h : a ≤ k ∧ k ≤ m) : rk W a k ≤ rk W a m := sorry
/-- a word but comments stands somewhere -/
theorem rk_ex : ∀ (N : Nat) (k : Int), (b - k).toNat = N → a ≤ k → ∀ j, rk W a k ≤ j → j < lnW (fl W a b) → ∃ m, k ≤ m ∧ m < b ∧ ¬ (wo W m).1 = 13 ∧ rk W a m = j := sorry
theorem sg_nc {w : Wo} {c : Int} (h : isG w c) : ¬ w.1 = 13 := sorry
theorem hcB_ex : ∀ (N : Nat) (k : Int), (t - k).toNat = N → hcB us k t = true → ∃ j, k ≤ j ∧ j < t ∧ isG (wo us j) 58 := sorry
/-- behind a word that is not allowed no route goes on -/
theorem brF_bl {C : Int} (hC : C < t) (hb : isG (wo us C) 62) : ∀ (N : Nat) (k : Int), (t - k).toNat = N → k ≤ C → brF us f t k = -1 ∨ brF us f t k = f ∨ (k < brF us f t k ∧ brF us f t k ≤ C) := sorry
theorem agF_y (h : k < lnW us) (hk : isG (wo us k) 60) : agF us k = k := sorry
theorem agF_n (h : k < lnW us) (hk : ¬ isG (wo us k) 60) : agF us k = agF us (k + 1) := sorry
theorem agF_e (h : lnW us ≤ k) : agF us k = k := sorry
theorem agF_at : ∀ (N : Nat) (k : Int), (lnW us - k).toNat = N → agF us k < lnW us → isG (wo us (agF us k)) 60 := sorry
theorem agF_le : ∀ (N : Nat) (k : Int), (lnW us - k).toNat = N → ∀ j, k ≤ j → j < lnW us → isG (wo us j) 60 → agF us k ≤ j := sorry
theorem all_sl {P : Wo → Bool} {n : Int} (hn : 0 ≤ n ∧ n ≤ lnW us) : (sl us 0 n).all P = true ↔ ∀ j, 0 ≤ j → j < n → P (wo us j) = true := sorry
theorem nmwB_sl {n : Int} (hn : 0 ≤ n ∧ n ≤ lnW us) : nmwB us n 0 = true ↔ (sl us 0 n).all plB = true := sorry
theorem spS_bad {C c : Int} (hs : sg1 us) (ht : t ≤ lnW us) (hf : 0 ≤ f) (h : f ≤ C ∧ C < t) (hb : isG (wo us C) c) (hc : c ≠ 46 ∧ c ≠ 64) : spS us f t = none := sorry
end RKX
section TMB
variable {τ : TT} {W us : List Wo} {a b f t : Int}
theorem t_hBehindRoute {Q : Int → TT → Prop} (h : HWZ τ W) (ha : 0 ≤ a ∧ a ≤ b ∧ b ≤ lnW W) (hu : fl W a b = sl us f t) (hf : 0 ≤ f ∧ f ≤ t ∧ t ≤ lnW us)
    (hQ : ∀ x g, a ≤ x → x ≤ b → fl W x b = sl us g t → f ≤ g → g ≤ t → (brF us f t f = g ∨ (brF us f t f = -1 ∧ g = f ∧ ∃ j, f ≤ j ∧ j < t ∧ isG (wo us j) 58)) → Q x τ) : w_hBehindRoute a b τ Q := sorry
/-- the mailboxes that were read -/
def ADR (τ : TT) (T : List Mb) (G : List (List Int)) : Prop := PRT τ 0 (T.map (fun v => v.1)) ∧ PRT τ 1 (T.map (fun v => v.2.1)) ∧ PRT τ 2 (T.map (fun v => v.2.2)) ∧ PRT τ 3 G
theorem PRT.frF {τ' : TT} {w : Int} {rows : List (List Int)} {sc ar : List Int} (h : PRT τ w rows) (hF : Fr τ τ' sc ar) (ha : ([89, 90, 91, 92, 93].all fun k => !ar.contains k) = true := by rfl) : PRT τ' w rows := sorry
theorem ADR.frF {τ' : TT} {T : List Mb} {G : List (List Int)} {sc ar : List Int} (h : ADR τ T G) (hF : Fr τ τ' sc ar) (ha : ([89, 90, 91, 92, 93].all fun k => !ar.contains k) = true := by rfl) : ADR τ' T G := sorry
/-- the comment of a stretch of words -/
def cmF (W : List Wo) (a b : Int) : List Int := lcF W (nxW W a b + 1) b []
theorem t_hTakeMailbox {wi gr : Int} {T : List Mb} {G : List (List Int)} {Q : TT → Prop} (hz : HWZ τ W) (ha : 0 ≤ a ∧ a ≤ b ∧ b ≤ lnW W) (hA : ADR τ T G) (hT : lnW T < 1000) (hb : τ.2 90 0 + 5 * wsR W a b < 20000) (hwi : wi = 0 ∨ wi = 1) (hgr : -2147483648 ≤ gr ∧ gr < 2147483648) (h134 : 0 ≤ τ.1 134 ∧ τ.1 134 < 100000)
    (hw0 : wi = 0 → ∀ k, a ≤ k → k < b → isG (wo W k) 60 → ∃ m, k < m ∧ m < b ∧ isG (wo W m) 62)
    (hw1 : wi = 1 → ∃ k, a ≤ k ∧ k < b ∧ isG (wo W k) 60 ∧ ∀ m, k < m → m < b → ¬ isG (wo W m) 62)
    (hQ : ∀ τ', Fr τ τ' [134, 139, 140] [89, 90, 91, 92, 93, 94] → ADR τ' (T ++ (mbF (fl W a b) (cmF W a b)).toList) G → τ'.2 90 0 ≤ τ.2 90 0 + 5 * wsR W a b → τ'.1 134 ≤ τ.1 134 + 1 → 0 ≤ τ'.1 134 → Q τ') : w_hTakeMailbox a b wi gr τ Q := sorry
end TMB

