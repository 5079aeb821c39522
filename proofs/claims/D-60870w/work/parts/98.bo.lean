/-! the twin: a word taken; tokens -/
set_option maxRecDepth 100000
theorem seg_of {f : Int → Int} {s : List Int} (h : ∀ i, 0 ≤ i → i < len s → f i = gt s i) : s = seg f 0 (len s) := by
  have n0 := len_nn s
  have e : len (seg f 0 (len s)) = len s := by
    show ((seg f 0 (len s)).length : Int) = len s
    rw [seg_len]; omega
  refine list_ext e.symm (fun k k0 k1 => ?_)
  rw [seg_gt k0 k1, h k k0 k1]
theorem hsB_c {s : List Int} : hsB s = true ↔ (2 < len s ∧ ∀ i, 0 ≤ i → i < len s → (97 ≤ gt s i ∧ gt s i ≤ 122)) := by
  unfold hsB
  rw [Bool.and_eq_true, decide_eq_true_iff, List.all_eq_true]
  refine ⟨fun z => ⟨z.1, fun i i0 i1 => ?_⟩, fun z => ⟨z.1, fun x hx => ?_⟩⟩
  · have y := z.2 _ (gt_mem i0 i1)
    unfold azB at y
    exact of_decide_eq_true y
  · obtain ⟨k, k0, k1, k2⟩ := mem_gt hx
    have y := z.2 k k0 k1
    rw [k2] at y
    unfold azB
    exact decide_eq_true y
/-- letters of a row of letters -/
def TXR (f : Int → Int) (n a k : Int) (s : List Int) : Prop := k = len s ∧ (0 ≤ a ∧ a + len s ≤ n) ∧ ∀ i, 0 ≤ i → i < len s → f (a + i) = gt s i
theorem TXR.mo {f f' : Int → Int} {n n' a k : Int} {s : List Int} (h : TXR f n a k s) (hn : n ≤ n') (hf : ∀ i, 0 ≤ i → i < n → f' i = f i) : TXR f' n' a k s :=
  ⟨h.1, ⟨h.2.1.1, by have := h.2.1.2; omega⟩, fun i i0 i1 => (hf _ (by have := h.2.1.1; omega) (by have := h.2.1.2; omega)).trans (h.2.2 i i0 i1)⟩
/-- a token's stem as the twin has it -/
def tkS (p : Pc) : List Int := if p.2.2.2 = true then p.1 else p.2.1
/-- how many letters it takes -/
def tkL (p : Pc) : Int := len p.1 + (if p.2.2.2 = false ∧ hsB p.1 = true then len p.2.1 else 0)
def ltS : List (Int × Pc) → Int
  | [] => 0
  | t :: r => tkL t.2 + ltS r
theorem ltS_app {ts us : List (Int × Pc)} : ltS (ts ++ us) = ltS ts + ltS us := by
  induction ts with
  | nil => show ltS us = 0 + ltS us; omega
  | cons t r ih => show tkL t.2 + ltS (r ++ us) = tkL t.2 + ltS r + ltS us; omega
theorem tkL_nn {p : Pc} : 0 ≤ tkL p := by
  unfold tkL
  have := len_nn p.1
  have := len_nn p.2.1
  split <;> omega
theorem ltS_nn {ts : List (Int × Pc)} : 0 ≤ ltS ts := by
  induction ts with
  | nil => exact Int.le_refl 0
  | cons t r ih => have := tkL_nn (p := t.2); show 0 ≤ tkL t.2 + ltS r; omega
/-- a token -/
def TK1 (τ : TT) (t : Int) (v : Int × Pc) : Prop := τ.2 52 t = v.1 ∧ τ.2 53 t = v.2.2.2.1 ∧ τ.2 58 t = b2i v.2.2.2.2 ∧ TXR (τ.2 59) (τ.1 71) (τ.2 54 t) (τ.2 55 t) v.2.1 ∧ TXR (τ.2 59) (τ.1 71) (τ.2 56 t) (τ.2 57 t) (tkS v.2)
def TKS (τ : TT) (ts : List (Int × Pc)) : Prop := τ.1 70 = (ts.length : Int) ∧ τ.1 71 = ltS ts ∧ ∀ (n : Nat) v, ts[n]? = some v → TK1 τ n v
theorem TKS.fr {τ τ' : TT} {ts : List (Int × Pc)} {sc ar : List Int} (h : TKS τ ts) (hF : Fr τ τ' sc ar) (h1 : ([70, 71].all fun k => !(sc.contains k)) = true := by rfl) (h2 : ([52, 53, 54, 55, 56, 57, 58, 59].all fun k => !(ar.contains k)) = true := by rfl) : TKS τ' ts := by
  have s : ∀ k, k ∈ ([70, 71] : List Int) → τ'.1 k = τ.1 k := fun k hk => hF.s k (by have := List.all_eq_true.mp h1 k hk; simpa using this)
  have a : ∀ k, k ∈ ([52, 53, 54, 55, 56, 57, 58, 59] : List Int) → τ'.2 k = τ.2 k := fun k hk => hF.a k (by have := List.all_eq_true.mp h2 k hk; simpa using this)
  unfold TKS TK1 at *
  rw [s 70 (by decide), s 71 (by decide), a 52 (by decide), a 53 (by decide), a 54 (by decide), a 55 (by decide), a 56 (by decide), a 57 (by decide), a 58 (by decide), a 59 (by decide)]
  exact h
/-- one more token; letters are put behind those that there are -/
theorem TKS.put {τ τ' : TT} {ts : List (Int × Pc)} {v : Int × Pc} (h : TKS τ ts) (h1 : τ'.1 70 = τ.1 70 + 1) (h2 : τ'.1 71 = τ.1 71 + tkL v.2) (hk : ∀ i, i ∈ ([52, 53, 54, 55, 56, 57, 58] : List Int) → ∀ k, k ≠ τ.1 70 → τ'.2 i k = τ.2 i k) (hx : ∀ k, 0 ≤ k → k < τ.1 71 → τ'.2 59 k = τ.2 59 k) (hv : TK1 τ' (τ.1 70) v) : TKS τ' (ts ++ [v]) := by
  obtain ⟨a1, a2, a3⟩ := h
  have nt := tkL_nn (p := v.2)
  refine ⟨?_, ?_, fun n w hn => ?_⟩
  · rw [h1, a1, List.length_append, List.length_singleton]; omega
  · rw [h2, a2, ltS_app]; show _ = _ + (tkL v.2 + 0); omega
  · rcases Nat.lt_trichotomy n ts.length with c | c | c
    · rw [List.getElem?_append_left c] at hn
      obtain ⟨b1, b2, b3, b4, b5⟩ := a3 n w hn
      have hne : (n : Int) ≠ τ.1 70 := by omega
      unfold TK1
      rw [hk 52 (by decide) _ hne, hk 53 (by decide) _ hne, hk 54 (by decide) _ hne, hk 55 (by decide) _ hne, hk 56 (by decide) _ hne, hk 57 (by decide) _ hne, hk 58 (by decide) _ hne]
      exact ⟨b1, b2, b3, b4.mo (by omega) hx, b5.mo (by omega) hx⟩
    · subst c
      rw [List.getElem?_append_right (Nat.le_refl _), Nat.sub_self] at hn
      have e : v = w := Option.some.inj hn
      rw [← e, ← a1]; exact hv
    · have z : ts.length + 1 ≤ n := c
      rw [List.getElem?_eq_none (by rw [List.length_append, List.length_singleton]; exact z)] at hn
      cases hn
section WTK
variable {τ : TT} {l : List Int} {a e f pl ad : Int} {ts : List (Int × Pc)}
theorem smT_ln (ha : 0 ≤ a ∧ a ≤ e ∧ e ≤ len l) : len (smT l a e) = min (e - a) 30 := by
  unfold smT
  rw [len_map, len_sub ⟨ha.1, by omega, by omega⟩]
  omega
theorem smT_gt {i : Int} (ha : 0 ≤ a ∧ a ≤ e ∧ e ≤ len l) (hi : 0 ≤ i ∧ i < min (e - a) 30) : gt (smT l a e) i = smW (gt l (a + i)) := by
  unfold smT
  rw [gt_map ⟨hi.1, by rw [len_sub ⟨ha.1, by omega, by omega⟩]; omega⟩, gt_sub ⟨ha.1, by omega, by omega⟩ hi.1 (by omega)]
theorem t_takeWord {Q : Int → TT → Prop} (h : WTX τ l) (ha : 0 ≤ a ∧ a < e ∧ e ≤ len l) (had : ad = 0 ∨ ad = 1)
    (hQ : ∀ (x : Int) τ', (x = 0 ∨ x = 1) → (x = 1 ↔ (ad = 0 ∧ hsB (smT l a e) = true)) → Fr τ τ' [232] [149, 150, 151, 152, 153] → τ'.2 149 0 = len (smT l a e) → (∀ i, 0 ≤ i → i < len (smT l a e) → τ'.2 151 i = gt (smT l a e) i) →
      (x = 1 → τ'.2 150 0 = len (stW (smT l a e)) ∧ ∀ i, 0 ≤ i → i < len (stW (smT l a e)) → τ'.2 152 i = gt (stW (smT l a e)) i) → Q x τ') : w_takeWord a e ad τ Q := by
  have hn := h.ln
  have hs := h.2.1
  have hsl := smT_ln (l := l) ⟨ha.1, by omega, ha.2.2⟩
  have hsg : ∀ i, 0 ≤ i → i < len (smT l a e) → gt (smT l a e) i = smW (gt l (a + i)) := fun i i0 i1 => smT_gt ⟨ha.1, by omega, ha.2.2⟩ ⟨i0, by omega⟩
  generalize smT l a e = s at *
  have L : ∀ (N : Nat) (j x : Int) (τ1 : TT), (len s - j).toNat = N → 0 ≤ j → j ≤ len s → (x = 0 ∨ x = 1) → (x = 1 ↔ (ad = 0 ∧ 2 < len s ∧ ∀ i, 0 ≤ i → i < j → (97 ≤ gt s i ∧ gt s i ≤ 122))) → Fr τ τ1 [232] [149, 150, 151, 152, 153] → (∀ i, 0 ≤ i → i < j → τ1.2 151 i = gt s i) → W_takeWord_38 a (len s) x j τ1 Q := by
    intro N
    induction N using Nat.strongRecOn with
    | ind N ih =>
      intro j x τ1 hN j0 j1 hx01 hx hF hj
      have hW : WTX τ1 l := h.fr (hF.s 216) (hF.a 142)
      refine s_takeWord_38 ⟨by omega, by omega, fun c42 => ⟨by omega, fun c110 => ⟨hx01, ?_⟩, fun c110 => ?_⟩, fun c42 => ⟨by omega, fun r53 => ?_⟩⟩
      · have ej : j = len s := by omega
        rw [ej] at hj hx
        refine hQ x _ hx01 ⟨fun z => by omega, fun z => hx.mpr ⟨z.1, (hsB_c.mp z.2).1, (hsB_c.mp z.2).2⟩⟩ (hF.pa _ _ _) ?_ hj (fun z => by omega)
        show up (τ1.2 149) 0 (len s) 0 = _; rw [up_at]
      · have ej : j = len s := by omega
        rw [ej] at hj hx
        have hx1 : x = 1 := by omega
        have hh := hx.mp hx1
        refine t_wStem (w := s) (seg_of hj) ?_ ⟨by omega, by omega⟩ (fun τ2 hF2 e1 e2 => ⟨hx01, ?_⟩)
        · show up (τ1.2 149) 0 (len s) 0 = _; rw [up_at]
        refine hQ x τ2 hx01 ⟨fun z => ⟨hh.1, hsB_c.mpr hh.2⟩, fun z => hx1⟩ ((hF.pa _ _ _).tr hF2) ?_ (fun i i0 i1 => ?_) (fun _ => ⟨e1, fun i i0 i1 => ?_⟩)
        · rw [hF2.a 149]; show up (τ1.2 149) 0 (len s) 0 = _; rw [up_at]
        · rw [hF2.a 151]; exact hj i i0 i1
        · have z := seg_gt (f := τ2.2 152) (n := len (stW s)) i0 i1
          rw [e2] at z; exact z.symm
      · have hkl : 0 ≤ a + j ∧ a + j < len l := ⟨by omega, by omega⟩
        have hg := hW.ch hkl
        have hsw := smW_bd (c := gt l (a + j)) (by omega)
        have hgj := hsg j j0 c42
        rw [hW.rd hkl]
        refine t_wSmall (by omega) ?_
        rw [← hgj] at hsw ⊢
        have hj' : ∀ i, 0 ≤ i → i < j + 1 → (τ1.a 151 j (gt s j)).2 151 i = gt s i := fun i i0 i1 => by
          show up (τ1.2 151) j (gt s j) i = _
          by_cases q : i = j
          · rw [q, up_at]
          · rw [up_ne _ q]; exact hj i i0 (by omega)
        have NO : (x = 1 → ¬ (97 ≤ gt s j ∧ gt s j ≤ 122)) → W_takeWord_91 a (len s) j (τ1.a 151 j (gt s j)) Q := fun z => by
          refine s_takeWord_91 (ih _ (by omega) (j + 1) 0 _ rfl (by omega) (by omega) (Or.inl rfl) ⟨fun y => absurd y (by decide), fun y => ?_⟩ (hF.pa _ _ _) hj')
          exact absurd (y.2.2 j j0 (by omega)) (z (hx.mpr ⟨y.1, y.2.1, fun i i0 i1 => y.2.2 i i0 (by omega)⟩))
        refine fun r54 => ⟨by omega, by omega, fun c70 => NO (fun z => by omega), fun c70 => ⟨fun c77 => NO (fun _ => by omega), fun c77 => ⟨fun c84 => NO (fun _ => by omega), fun c84 => ?_⟩⟩⟩
        have hx1 : x = 1 := by omega
        have hh := hx.mp hx1
        refine ih _ (by omega) (j + 1) 1 _ rfl (by omega) (by omega) (Or.inr rfl) ⟨fun _ => ⟨hh.1, hh.2.1, fun i i0 i1 => ?_⟩, fun _ => rfl⟩ (hF.pa _ _ _) hj'
        by_cases q : i = j
        · rw [q]; exact ⟨c77, c84⟩
        · exact hh.2.2 i i0 (by omega)
  have S32 : ¬ (ad = 0 ∧ 2 < len s) → W_takeWord_32 a (len s) τ Q := fun z => s_takeWord_32 (L _ 0 0 τ rfl (Int.le_refl 0) (by omega) (Or.inl rfl) ⟨fun y => absurd y (by decide), fun y => absurd ⟨y.1, y.2.1⟩ z⟩ Fr.rf (fun i i0 i1 => absurd i1 (by omega)))
  have S16 : W_takeWord_16 a ad (len s) τ Q := s_takeWord_16 ⟨by omega, fun c19 => S32 (fun z => c19 z.1), fun c19 => ⟨by omega, fun c25 => S32 (fun z => by omega), fun c25 => L _ 0 1 τ rfl (Int.le_refl 0) (by omega) (Or.inr rfl) ⟨fun _ => ⟨c19, c25, fun i i0 i1 => absurd i1 (by omega)⟩, fun _ => rfl⟩ Fr.rf (fun i i0 i1 => absurd i1 (by omega))⟩⟩
  refine s_takeWord ⟨by omega, fun c5 => ?_, fun c5 => ?_⟩
  · rw [show (30 : Int) = len s by omega]; exact S16
  · rw [show e - a = len s by omega]; exact S16
/-- what is added for a word, or an address -/
def tkP (l : List Int) (a e pl ad : Int) : Pc := if ad = 1 then (smT l a e, [], pl, true) else pcF (smT l a e) pl
theorem t_addToken {Q : TT → Prop} (h : WTX τ l) (hT : TKS τ ts) (ha : 0 ≤ a ∧ a < e ∧ e ≤ len l) (had : ad = 0 ∨ ad = 1) (hf : 0 ≤ f ∧ f < 5) (hp : 0 ≤ pl ∧ pl ≤ 1000000) (hb : (ts.length : Int) < 9000 ∧ ltS ts ≤ 169900)
    (hQ : ∀ τ', Fr τ τ' [70, 71, 232] [52, 53, 54, 55, 56, 57, 58, 59, 149, 150, 151, 152, 153] → TKS τ' (ts ++ [(f, tkP l a e pl ad)]) → Q τ') : w_addToken f a e pl ad τ Q := by
  have hs30 := smT_ln (l := l) (a := a) (e := e) ⟨ha.1, by omega, ha.2.2⟩
  have hst := stW_len (w := smT l a e)
  have n0 := len_nn (smT l a e)
  have n1 := len_nn (stW (smT l a e))
  have hP1 : (tkP l a e pl ad).1 = smT l a e := by unfold tkP; split <;> rfl
  have hP3 : (tkP l a e pl ad).2.2.1 = pl := by unfold tkP; split <;> rfl
  have hP4 : (tkP l a e pl ad).2.2.2 = decide (ad = 1) := by
    unfold tkP
    rcases had with z | z
    · rw [z]; rfl
    · rw [z]; rfl
  have hb4 : b2i (tkP l a e pl ad).2.2.2 = ad := by rw [hP4]; rcases had with z | z <;> rw [z] <;> rfl
  have hP2 : ad = 0 → (tkP l a e pl ad).2.1 = if hsB (smT l a e) = true then stW (smT l a e) else smT l a e := fun z => by unfold tkP; rw [if_neg (by omega)]; rfl
  have hS1 : (ad = 0 ∧ hsB (smT l a e) = true) → tkS (tkP l a e pl ad) = stW (smT l a e) ∧ tkL (tkP l a e pl ad) = len (smT l a e) + len (stW (smT l a e)) := fun z => by
    unfold tkS tkL
    rw [hP4, hP1, hP2 z.1, if_pos z.2, if_neg (by rw [decide_eq_true_iff]; omega), if_pos ⟨decide_eq_false (by omega), z.2⟩]
    exact ⟨rfl, rfl⟩
  have hS0 : ¬ (ad = 0 ∧ hsB (smT l a e) = true) → tkS (tkP l a e pl ad) = smT l a e ∧ tkL (tkP l a e pl ad) = len (smT l a e) := fun z => by
    unfold tkS tkL
    rw [hP4, hP1]
    refine ⟨?_, ?_⟩
    · by_cases q : ad = 1
      · rw [if_pos (decide_eq_true q)]
      · rw [if_neg (by rw [decide_eq_true_iff]; exact q), hP2 (by omega), if_neg (fun y => z ⟨by omega, y⟩)]
    · rw [if_neg (fun y => z ⟨by have := of_decide_eq_false y.1; omega, y.2⟩)]; omega
  obtain ⟨a1, a2, a3⟩ := hT
  have nl := ltS_nn (ts := ts)
  refine s_addToken (t_takeWord h ha had (fun x τ1 hx01 hx hF1 e149 e151 e150 r5 r11 => ?_))
  have t70 : τ1.1 70 = (ts.length : Int) := (hF1.s 70).trans a1
  have t71 : τ1.1 71 = ltS ts := (hF1.s 71).trans a2
  have hT1 : TKS τ1 ts := TKS.fr ⟨a1, a2, a3⟩ hF1
  generalize smT l a e = s at *
  generalize tkP l a e pl ad = P at *
  rw [t71]
  refine ⟨⟨by omega, by omega⟩, by omega, by omega, by omega, fun r49 r64 => ?_⟩
  rw [e149]
  -- the end
  have E : ∀ (τ2 : TT), Fr τ τ2 [70, 71, 232] [52, 53, 54, 55, 56, 57, 58, 59, 149, 150, 151, 152, 153] → τ2.1 70 = τ1.1 70 → τ2.1 71 = τ1.1 71 + tkL P → (∀ i, i ∈ ([52, 53, 54, 55, 56, 57, 58] : List Int) → ∀ k, k ≠ τ1.1 70 → τ2.2 i k = τ1.2 i k) → (∀ k, 0 ≤ k → k < τ1.1 71 → τ2.2 59 k = τ1.2 59 k) → TK1 τ2 (τ1.1 70) (f, P) → W_addToken_231 τ2 Q := fun τ2 hF2 g1 g2 g3 g4 g5 => by
    refine s_addToken_231 (fun r233 => ⟨by omega, hQ _ (hF2.ps _ _) (hT1.put (v := (f, P)) ?_ g2 g3 g4 g5)⟩)
    show τ2.1 70 + 1 = _
    rw [g1]
  have A : ∀ (N : Nat) (j : Int) (τ2 : TT), (len s - j).toNat = N → 0 ≤ j → j ≤ len s → Fr τ τ2 [70, 71, 232] [52, 53, 54, 55, 56, 57, 58, 59, 149, 150, 151, 152, 153] → τ2.1 70 = τ1.1 70 → τ2.1 71 = τ1.1 71 →
      (∀ i, i ∈ ([52, 53, 54, 55, 56, 57, 58] : List Int) → ∀ k, k ≠ τ1.1 70 → τ2.2 i k = τ1.2 i k) → (∀ k, 0 ≤ k → k < τ1.1 71 → τ2.2 59 k = τ1.2 59 k) → (∀ i, i ∈ ([149, 150, 151, 152] : List Int) → τ2.2 i = τ1.2 i) →
      τ2.2 52 (τ1.1 70) = f → τ2.2 53 (τ1.1 70) = pl → τ2.2 58 (τ1.1 70) = ad → τ2.2 54 (τ1.1 70) = τ1.1 71 → τ2.2 55 (τ1.1 70) = len s → (∀ i, 0 ≤ i → i < j → τ2.2 59 (τ1.1 71 + i) = gt s i) → W_addToken_69 x (τ1.1 70) j τ2 Q := by
    intro N
    induction N using Nat.strongRecOn with
    | ind N ih =>
      intro j τ2 hN j0 j1 hF2 g1 g2 g3 g4 g5 k52 k53 k58 k54 k55 hj
      refine s_addToken_69 ?_
      rw [g5 149 (by decide), e149, g2, t71, k54, k55, g5 150 (by decide), g5 151 (by decide)]
      refine fun r76 => ⟨by omega, fun c77 r107 r115 => ⟨by omega, by omega, fun r132 r146 => ⟨by omega, fun c150 => ?_, fun c150 r175 => ?_⟩⟩, fun c77 r85 => ⟨by omega, fun r97 => ⟨by omega, ?_⟩⟩⟩
      · have ej : j = len s := by omega
        rw [ej] at hj
        have hS := hS0 (fun z => by have := hx.mpr z; omega)
        refine E _ (((hF2.ps _ _).pa _ _ _).pa _ _ _) g1 ?_ (fun i hi k hk => ?_) g4 ?_
        · show ltS ts + len s = τ1.1 71 + tkL P
          rw [hS.2, t71]
        · rcases List.mem_cons.mp hi with z | hi
          · subst z; exact g3 52 (by decide) k hk
          rcases List.mem_cons.mp hi with z | hi
          · subst z; exact g3 53 (by decide) k hk
          rcases List.mem_cons.mp hi with z | hi
          · subst z; exact g3 54 (by decide) k hk
          rcases List.mem_cons.mp hi with z | hi
          · subst z; exact g3 55 (by decide) k hk
          rcases List.mem_cons.mp hi with z | hi
          · subst z; exact (up_ne _ hk).trans (g3 56 (by decide) k hk)
          rcases List.mem_cons.mp hi with z | hi
          · subst z; exact (up_ne _ hk).trans (g3 57 (by decide) k hk)
          rcases List.mem_cons.mp hi with z | hi
          · subst z; exact g3 58 (by decide) k hk
          cases hi
        · have T0 : TXR (τ2.2 59) (ltS ts + len s) (τ1.1 71) (len s) s := ⟨rfl, ⟨by omega, by omega⟩, hj⟩
          refine ⟨k52, k53.trans hP3.symm, k58.trans hb4.symm, ?_, ?_⟩
          · show TXR (τ2.2 59) (ltS ts + len s) (τ2.2 54 (τ1.1 70)) (τ2.2 55 (τ1.1 70)) P.1
            rw [k54, k55, hP1]; exact T0
          · show TXR (τ2.2 59) (ltS ts + len s) (up (τ2.2 56) (τ1.1 70) (τ1.1 71) (τ1.1 70)) (up (τ2.2 57) (τ1.1 70) (len s) (τ1.1 70)) (tkS P)
            rw [up_at, up_at, hS.1]; exact T0
      · have ej : j = len s := by omega
        rw [ej] at hj
        have hx1 : x = 1 := by omega
        have hS := hS1 (hx.mp hx1)
        obtain ⟨m1, m2⟩ := e150 hx1
        rw [m1]
        -- the stem's letters
        have B : ∀ (M : Nat) (i : Int) (τ3 : TT), (len (stW s) - i).toNat = M → 0 ≤ i → i ≤ len (stW s) → Fr τ τ3 [70, 71, 232] [52, 53, 54, 55, 56, 57, 58, 59, 149, 150, 151, 152, 153] → τ3.1 70 = τ1.1 70 → τ3.1 71 = ltS ts + len s →
            (∀ i, i ∈ ([52, 53, 54, 55, 56, 57, 58] : List Int) → ∀ k, k ≠ τ1.1 70 → τ3.2 i k = τ1.2 i k) → (∀ k, 0 ≤ k → k < τ1.1 71 + len s → τ3.2 59 k = τ2.2 59 k) → (∀ i, i ∈ ([150, 152] : List Int) → τ3.2 i = τ1.2 i) →
            τ3.2 52 (τ1.1 70) = f → τ3.2 53 (τ1.1 70) = pl → τ3.2 58 (τ1.1 70) = ad → τ3.2 54 (τ1.1 70) = τ1.1 71 → τ3.2 55 (τ1.1 70) = len s → τ3.2 56 (τ1.1 70) = ltS ts + len s → τ3.2 57 (τ1.1 70) = len (stW s) → (∀ k, 0 ≤ k → k < i → τ3.2 59 (ltS ts + len s + k) = gt (stW s) k) → W_addToken_180 i τ3 Q := by
          intro M
          induction M using Nat.strongRecOn with
          | ind M im =>
            intro i τ3 hM i0 i1 hF3 q1 q2 q3 q4 q5 p52 p53 p58 p54 p55 p56 p57 hi
            refine s_addToken_180 ?_
            rw [q5 150 (by decide), m1, q2, q5 152 (by decide)]
            refine fun r187 => ⟨by omega, fun c188 r218 r226 => ⟨by omega, ?_⟩, fun c188 r196 => ⟨by omega, fun r208 => ⟨by omega, ?_⟩⟩⟩
            · have ei : i = len (stW s) := by omega
              rw [ei] at hi
              refine E _ (hF3.ps _ _) q1 ?_ q3 (fun k k0 k1 => (q4 k k0 (by omega)).trans (g4 k k0 k1)) ?_
              · show ltS ts + len s + len (stW s) = τ1.1 71 + tkL P
                rw [hS.2, t71]; omega
              · refine ⟨p52, p53.trans hP3.symm, p58.trans hb4.symm, ?_, ?_⟩
                · show TXR (τ3.2 59) (ltS ts + len s + len (stW s)) (τ3.2 54 (τ1.1 70)) (τ3.2 55 (τ1.1 70)) P.1
                  rw [p54, p55, hP1]
                  exact ⟨rfl, ⟨by omega, by omega⟩, fun k k0 k1 => (q4 _ (by omega) (by omega)).trans (hj k k0 k1)⟩
                · show TXR (τ3.2 59) (ltS ts + len s + len (stW s)) (τ3.2 56 (τ1.1 70)) (τ3.2 57 (τ1.1 70)) (tkS P)
                  rw [p56, p57, hS.1]
                  exact ⟨rfl, ⟨by omega, by omega⟩, hi⟩
            · rw [m2 i i0 c188]
              refine im _ (by omega) (i + 1) _ rfl (by omega) (by omega) (hF3.pa _ _ _) q1 q2 (fun z hz k hk => ?_) (fun k k0 k1 => ?_) (fun z hz => ?_) p52 p53 p58 p54 p55 p56 p57 (fun k k0 k1 => ?_)
              · have hz2 : z ≠ 59 := fun y => by rw [y] at hz; exact absurd hz (by decide)
                show (if z = 59 then _ else τ3.2 z) k = _
                rw [if_neg hz2]; exact q3 z hz k hk
              · show up (τ3.2 59) (ltS ts + len s + i) _ k = _
                rw [up_ne _ (by omega)]; exact q4 k k0 k1
              · have hz2 : z ≠ 59 := fun y => by rw [y] at hz; exact absurd hz (by decide)
                show (if z = 59 then _ else τ3.2 z) = _
                rw [if_neg hz2]; exact q5 z hz
              · show up (τ3.2 59) (ltS ts + len s + i) _ (ltS ts + len s + k) = _
                by_cases q : k = i
                · rw [q, up_at]
                · rw [up_ne _ (by omega)]; exact hi k k0 (by omega)
        refine B _ 0 _ rfl (Int.le_refl 0) n1 (((((hF2.ps _ _).pa _ _ _).pa _ _ _).pa _ _ _).pa _ _ _) g1 rfl (fun i hi k hk => ?_) (fun k k0 k1 => rfl) (fun i hi => ?_) k52 k53 k58 k54 k55 (up_at _ _ _) (up_at _ _ _) (fun k k0 k1 => absurd k1 (by omega))
        · rcases List.mem_cons.mp hi with z | hi
          · subst z; exact g3 52 (by decide) k hk
          rcases List.mem_cons.mp hi with z | hi
          · subst z; exact g3 53 (by decide) k hk
          rcases List.mem_cons.mp hi with z | hi
          · subst z; exact g3 54 (by decide) k hk
          rcases List.mem_cons.mp hi with z | hi
          · subst z; exact g3 55 (by decide) k hk
          rcases List.mem_cons.mp hi with z | hi
          · subst z; exact ((up_ne _ hk).trans (up_ne _ hk)).trans (g3 56 (by decide) k hk)
          rcases List.mem_cons.mp hi with z | hi
          · subst z; exact ((up_ne _ hk).trans (up_ne _ hk)).trans (g3 57 (by decide) k hk)
          rcases List.mem_cons.mp hi with z | hi
          · subst z; exact g3 58 (by decide) k hk
          cases hi
        · rcases List.mem_cons.mp hi with z | hi
          · subst z; exact g5 150 (by decide)
          rcases List.mem_cons.mp hi with z | hi
          · subst z; exact g5 152 (by decide)
          cases hi
      · have hc : j < len s := c77
        rw [e151 j j0 hc]
        refine ih _ (by omega) (j + 1) _ rfl (by omega) (by omega) (hF2.pa _ _ _) g1 g2 (fun z hz k hk => ?_) (fun k k0 k1 => ?_) (fun z hz => ?_) k52 k53 k58 k54 k55 (fun i i0 i1 => ?_)
        · have hz2 : z ≠ 59 := fun y => by rw [y] at hz; exact absurd hz (by decide)
          show (if z = 59 then _ else τ2.2 z) k = _
          rw [if_neg hz2]; exact g3 z hz k hk
        · show up (τ2.2 59) (ltS ts + j) _ k = _
          rw [up_ne _ (by omega)]; exact g4 k k0 k1
        · have hz2 : z ≠ 59 := fun y => by rw [y] at hz; exact absurd hz (by decide)
          show (if z = 59 then _ else τ2.2 z) = _
          rw [if_neg hz2]; exact g5 z hz
        · show up (τ2.2 59) (ltS ts + j) _ (τ1.1 71 + i) = _
          rw [t71]
          by_cases q : i = j
          · rw [q, up_at]
          · rw [up_ne _ (by omega), ← t71]; exact hj i i0 (by omega)
  refine A _ 0 _ rfl (Int.le_refl 0) n0 ((((((show Fr τ τ1 [70, 71, 232] [52, 53, 54, 55, 56, 57, 58, 59, 149, 150, 151, 152, 153] from (Fr.rf.tr hF1)).pa _ _ _).pa _ _ _).pa _ _ _).pa _ _ _).pa _ _ _) rfl rfl (fun i hi k hk => ?_) (fun k k0 k1 => rfl) (fun i hi => ?_) ?_ ?_ ?_ ?_ ?_ (fun i i0 i1 => absurd i1 (by omega))
  · rcases List.mem_cons.mp hi with z | hi
    · subst z; exact up_ne _ hk
    rcases List.mem_cons.mp hi with z | hi
    · subst z; exact up_ne _ hk
    rcases List.mem_cons.mp hi with z | hi
    · subst z; exact up_ne _ hk
    rcases List.mem_cons.mp hi with z | hi
    · subst z; exact up_ne _ hk
    rcases List.mem_cons.mp hi with z | hi
    · subst z; rfl
    rcases List.mem_cons.mp hi with z | hi
    · subst z; rfl
    rcases List.mem_cons.mp hi with z | hi
    · subst z; exact up_ne _ hk
    cases hi
  · rcases List.mem_cons.mp hi with z | hi
    · subst z; rfl
    rcases List.mem_cons.mp hi with z | hi
    · subst z; rfl
    rcases List.mem_cons.mp hi with z | hi
    · subst z; rfl
    rcases List.mem_cons.mp hi with z | hi
    · subst z; rfl
    cases hi
  · exact up_at _ _ _
  · exact up_at _ _ _
  · exact up_at _ _ _
  · rw [t71]; exact up_at _ _ _
  · exact up_at _ _ _
end WTK
