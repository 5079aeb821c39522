/-! the twin: tags, days, bytes and ranges of a query -/
set_option maxRecDepth 100000
theorem ngF_all : ∀ (m : List Int) (v : Int), (∀ c, c ∈ m → chDg c) → ngF m v = nmU v m
  | [], v, _ => rfl
  | c :: r, v, h => by
    show (if chDg c then ngF r (10 * v + c - 48) else -1) = nmU (10 * v + c - 48) r
    rw [if_pos (h c (List.mem_cons_self ..))]
    exact ngF_all r _ (fun x hx => h x (List.mem_cons_of_mem _ hx))
theorem ngF_no : ∀ (m : List Int) (v : Int), (∃ c, c ∈ m ∧ ¬ chDg c) → ngF m v = -1
  | [], v, h => by obtain ⟨c, hc, _⟩ := h; cases hc
  | c :: r, v, h => by
    show (if chDg c then ngF r (10 * v + c - 48) else -1) = -1
    by_cases hc : chDg c
    · rw [if_pos hc]
      obtain ⟨x, hx, hn⟩ := h
      rcases List.mem_cons.mp hx with z | z
      · rw [z] at hn; exact absurd hc hn
      · exact ngF_no r _ ⟨x, z, hn⟩
    · rw [if_neg hc]
theorem nmU_app {v : Int} {a b : List Int} : nmU v (a ++ b) = nmU (nmU v a) b := by unfold nmU; rw [List.foldl_append]
theorem nmU_v : ∀ (b : List Int) (v : Int), nmU v b = v * 10 ^ b.length + nmU 0 b
  | [], v => by show v = v * 1 + 0; omega
  | c :: r, v => by
    show nmU (10 * v + c - 48) r = v * 10 ^ (r.length + 1) + nmU (10 * 0 + c - 48) r
    rw [nmU_v r (10 * v + c - 48), nmU_v r (10 * 0 + c - 48), Int.pow_succ]
    generalize (10 : Int) ^ r.length = P
    have e1 : (10 * v + c - 48) * P = 10 * (v * P) + (c - 48) * P := by rw [show 10 * v + c - 48 = 10 * v + (c - 48) by omega, Int.add_mul, Int.mul_assoc]
    have e2 : (10 * 0 + c - 48) * P = (c - 48) * P := by rw [show 10 * 0 + c - 48 = c - 48 by omega]
    have e3 : v * (P * 10) = 10 * (v * P) := by rw [← Int.mul_assoc, Int.mul_comm]
    rw [e1, e2, e3]
    omega
theorem sub_sub0 {l : List Int} {k e i j : Int} (h : 0 ≤ k ∧ k ≤ e ∧ e ≤ len l) (hi : 0 ≤ i ∧ i ≤ j ∧ j ≤ e - k) : sub (sub l k e) i j = sub l (k + i) (k + j) := by
  have hl := len_sub h
  refine list_ext ?_ (fun x x0 x1 => ?_)
  · rw [len_sub ⟨hi.1, hi.2.1, by omega⟩, len_sub ⟨by omega, by omega, by omega⟩]; omega
  · rw [len_sub ⟨hi.1, hi.2.1, by omega⟩] at x1
    rw [gt_sub ⟨hi.1, hi.2.1, by omega⟩ x0 x1, gt_sub h (by omega) (by omega), gt_sub ⟨by omega, by omega, by omega⟩ x0 (by omega), Int.add_assoc]
/-- how many digits stand at a place -/
def dgN (l : List Int) (k e : Int) : Int := min e (scn pfD l k) - k
section QRG
variable {τ τ' : TT} {l t : List Int} {k e c n f y m : Int} {od : Bool}
theorem dgN_p (hk : 0 ≤ k ∧ k ≤ e ∧ e ≤ len l) : 0 ≤ dgN l k e ∧ dgN l k e ≤ e - k ∧ (∀ i, 0 ≤ i → i < dgN l k e → chDg (gt l (k + i))) ∧ (dgN l k e = e - k ∨ ¬ chDg (gt l (k + dgN l k e))) := by
  have h1 := scn_ge (p := pfD) (l := l) (k := k)
  have h2 := scn_all (p := pfD) (l := l) k hk.1
  have h3 := scn_at (p := pfD) (l := l) k hk.1
  unfold dgN
  refine ⟨by omega, by omega, fun i i0 i1 => of_decide_eq_true (h2 (k + i) (by omega) (by omega)), ?_⟩
  by_cases c : e ≤ scn pfD l k
  · left; omega
  · right
    rw [show k + (min e (scn pfD l k) - k) = scn pfD l k by omega]
    exact of_decide_eq_false (h3 (by omega))
theorem t_qDigits {Q : Int → TT → Prop} (h : QTX τ l) (hk : 0 ≤ k ∧ k ≤ e ∧ e ≤ len l) (hQ : Q (dgN l k e) τ) : w_qDigits k e τ Q := by
  have hn := h.ln
  have h2 := h.2.2
  unfold dgN at hQ
  have L : ∀ (N : Nat) (j : Int), (e - k - j).toNat = N → 0 ≤ j → j ≤ e - k → scn pfD l k = scn pfD l (k + j) → W_qDigits_2 k e j τ Q := by
    intro N
    induction N using Nat.strongRecOn with
    | ind N ih =>
      intro j hN j0 j1 hj
      have ha := h.at (k := k + j)
      have hge := scn_ge (p := pfD) (l := l) (k := k + j)
      refine s_qDigits_2 ⟨by omega, by omega, fun c6 => ⟨by omega, ?_⟩, fun c6 => ?_⟩
      · rw [show min e (scn pfD l k) - k = j by omega] at hQ; exact hQ
      · have hkl : 0 ≤ k + j ∧ k + j < len l := ⟨by omega, by omega⟩
        have hat : atI l (k + j) = gt l (k + j) := if_pos hkl
        refine t_qSee h ⟨by omega, by omega⟩ (fun r13 => t_qIsDigit (by omega) (fun hp r16 => ⟨fun c0 => absurd c0 (by decide), fun _ => ?_⟩) (fun hp r16 => ⟨fun _ => ⟨by omega, ?_⟩, fun c0 => absurd rfl c0⟩))
        · rw [hat] at hp
          exact ih _ (by omega) (j + 1) rfl (by omega) (by omega) (by rw [hj, scn_step hkl (by unfold pfD; exact decide_eq_true hp), Int.add_assoc])
        · rw [hat] at hp
          rw [hj, scn_stop hkl (by unfold pfD; exact decide_eq_false hp), show min e (k + j) - k = j by omega] at hQ
          exact hQ
  exact s_qDigits (L _ 0 rfl (Int.le_refl 0) (by omega) (by rw [Int.add_zero]))
theorem nmU_bd {a : List Int} (h : ∀ c, c ∈ a → chDg c) (hl : a.length ≤ 8) : 0 ≤ nmU 0 a ∧ nmU 0 a < 100000000 := by
  have z := nmU_in a 0 h (Int.le_refl 0)
  have c : ∀ n : Nat, n < 9 → (0 + 1 : Int) * 10 ^ n ≤ 100000000 := by decide
  have d := c _ (show a.length < 9 by omega)
  omega
theorem dg_sub (hk : 0 ≤ k ∧ 0 ≤ n ∧ k + n ≤ len l) (hd : ∀ i, 0 ≤ i → i < n → chDg (gt l (k + i))) : ∀ c, c ∈ sub l k (k + n) → chDg c := fun c hc => by
  obtain ⟨i, i0, i1, i2⟩ := mem_gt hc
  rw [len_sub ⟨hk.1, by omega, hk.2.2⟩] at i1
  rw [gt_sub ⟨hk.1, by omega, hk.2.2⟩ i0 i1] at i2
  rw [← i2]
  exact hd i i0 (by omega)
theorem t_qNumber {Q : Int → TT → Prop} (h : QTX τ l) (hk : 0 ≤ k ∧ 0 ≤ n ∧ k + n ≤ len l ∧ n ≤ 8) (hd : ∀ i, 0 ≤ i → i < n → chDg (gt l (k + i))) (hQ : Q (nmU 0 (sub l k (k + n))) τ) : w_qNumber k n τ Q := by
  have hn := h.ln
  have h2 := h.2.2
  have hS : ∀ j, 0 ≤ j → j ≤ n → 0 ≤ nmU 0 (sub l k (k + j)) ∧ nmU 0 (sub l k (k + j)) < 100000000 := fun j j0 j1 => by
    have hl := len_sub (l := l) (i := k) (n := k + j) ⟨hk.1, by omega, by omega⟩
    exact nmU_bd (dg_sub ⟨hk.1, j0, by omega⟩ (fun i i0 i1 => hd i i0 (by omega))) (by unfold len at hl; omega)
  have L : ∀ (N : Nat) (j v : Int), (n - j).toNat = N → 0 ≤ j → j ≤ n → v = nmU 0 (sub l k (k + j)) → W_qNumber_5 k n v j τ Q := by
    intro N
    induction N using Nat.strongRecOn with
    | ind N ih =>
      intro j v hN j0 j1 hv
      have hb := hS j j0 j1
      refine s_qNumber_5 ⟨by omega, by omega, fun c8 => ⟨by omega, ?_⟩, fun c8 => t_qSee h ⟨by omega, by omega⟩ (fun r20 => ih _ (by omega) (j + 1) _ rfl (by omega) (by omega) ?_)⟩
      · have ej : j = n := by omega
        rw [hv, ej]; exact hQ
      · have hat : atI l (k + j) = gt l (k + j) := if_pos ⟨by omega, by omega⟩
        have e2 : sub l k (k + (j + 1)) = sub l k (k + j) ++ [gt l (k + j)] := by
          rw [← Int.add_assoc]; exact sub_snoc ⟨hk.1, by omega, by omega⟩
        rw [e2, nmU_app, hat, hv]
        show _ = 10 * nmU 0 (sub l k (k + j)) + gt l (k + j) - 48
        omega
  refine s_qNumber (L _ 0 0 rfl (Int.le_refl 0) hk.2.1 ?_)
  have e0 : sub l k (k + 0) = [] := List.eq_nil_of_length_eq_zero (by
    have h1 : ((sub l k (k + 0)).length : Int) = k + 0 - k := len_sub (l := l) (i := k) (n := k + 0) ⟨hk.1, by omega, by omega⟩
    omega)
  rw [e0]; rfl
/-- a number of all digits but the last ones -/
theorem rgNum_q {but most : Int} (hk : 0 ≤ k ∧ k ≤ e ∧ e ≤ len l) (hb : 0 ≤ but) (h1 : 1 ≤ e - but - k) (h2 : e - but - k ≤ most) : rgNum (sub l k e) but most = if e - but - k ≤ dgN l k e then nmU 0 (sub l k (e - but)) else -1 := by
  have hl := len_sub hk
  have hp := dgN_p hk
  have e1 : sub (sub l k e) 0 (len (sub l k e) - but) = sub l k (e - but) := by
    rw [sub_sub0 hk ⟨Int.le_refl 0, by omega, by omega⟩, hl, Int.add_zero, show k + (e - k - but) = e - but by omega]
  unfold rgNum
  rw [if_neg (by omega), e1]
  by_cases c : e - but - k ≤ dgN l k e
  · rw [if_pos c]
    refine ngF_all _ _ ?_
    have z := dg_sub (l := l) (k := k) (n := e - but - k) ⟨hk.1, by omega, by omega⟩ (fun i i0 i1 => hp.2.2.1 i i0 (by omega))
    rw [show k + (e - but - k) = e - but by omega] at z
    exact z
  · rw [if_neg c]
    refine ngF_no _ _ ⟨gt l (k + dgN l k e), ?_, hp.2.2.2.resolve_left (by omega)⟩
    have z := gt_sub (l := l) (i := k) (n := e - but) ⟨hk.1, by omega, by omega⟩ (k := dgN l k e) hp.1 (by omega)
    rw [← z]
    exact gt_mem hp.1 (by rw [len_sub ⟨hk.1, by omega, by omega⟩]; omega)
theorem rgNum_o {but most : Int} (hk : 0 ≤ k ∧ k ≤ e ∧ e ≤ len l) (h : e - but - k < 1 ∨ most < e - but - k) : rgNum (sub l k e) but most = -1 := by
  have hl := len_sub hk
  unfold rgNum
  rw [if_pos (by omega)]
theorem lasC_q (hk : 0 ≤ k ∧ k < e ∧ e ≤ len l) : lasC (sub l k e) = gt l (e - 1) := by
  have hl := len_sub (l := l) (i := k) (n := e) ⟨hk.1, by omega, hk.2.2⟩
  unfold lasC
  rw [if_neg (fun z => by rw [z] at hl; have : len ([] : List Int) = 0 := rfl; omega), hl, gt_sub ⟨hk.1, by omega, hk.2.2⟩ (by omega) (by omega)]
  rw [show k + (e - k - 1) = e - 1 by omega]
theorem t_qIsTag {Q : Int → TT → Prop} (h : QTX τ l) (hk : 0 ≤ k ∧ k ≤ e ∧ e ≤ len l) (hQ1 : tgF (sub l k e) = true → Q 1 τ) (hQ0 : ¬ tgF (sub l k e) = true → Q 0 τ) : w_qIsTag k e τ Q := by
  have hn := h.ln
  have h2 := h.2.2
  have hls := len_sub hk
  have hT : tgF (sub l k e) = true ↔ (e - k ≤ 16 ∧ ∀ i, k ≤ i → i < e → (chSm (gt l i) ∨ chDg (gt l i) ∨ gt l i = 45)) := by
    unfold tgF
    rw [Bool.and_eq_true, decide_eq_true_iff, List.all_eq_true, hls]
    refine ⟨fun z => ⟨z.1, fun i i0 i1 => ?_⟩, fun z => ⟨z.1, fun x hx => ?_⟩⟩
    · have y := gt_sub (l := l) (i := k) (n := e) hk (k := i - k) (by omega) (by omega)
      rw [show k + (i - k) = i by omega] at y
      have hm : gt (sub l k e) (i - k) ∈ sub l k e := gt_mem (by omega) (by rw [hls]; omega)
      rw [y] at hm
      exact of_decide_eq_true (z.2 _ hm)
    · obtain ⟨i, i0, i1, i2⟩ := mem_gt hx
      rw [hls] at i1
      rw [gt_sub hk i0 i1] at i2
      rw [← i2]
      exact decide_eq_true (z.2 _ (by omega) (by omega))
  have L : ∀ (N : Nat) (j b : Int), (e - j).toNat = N → k ≤ j → j ≤ e → (b = 0 ∨ b = 1) → (b = 1 ↔ (e - k ≤ 16 ∧ ∀ i, k ≤ i → i < j → (chSm (gt l i) ∨ chDg (gt l i) ∨ gt l i = 45))) → W_qIsTag_17 e b j τ Q := by
    intro N
    induction N using Nat.strongRecOn with
    | ind N ih =>
      intro j b hN j0 j1 hb01 hb
      have ha := h.at (k := j)
      refine s_qIsTag_17 ⟨by omega, by omega, fun c20 => ⟨hb01, ?_⟩, fun c20 => ⟨by omega, fun c24 => ?_, fun c24 => ?_⟩⟩
      · have ej : j = e := by omega
        rw [ej, ← hT] at hb
        rcases hb01 with z | z
        · rw [z]; exact hQ0 (fun y => by have := hb.mpr y; omega)
        · rw [z]; exact hQ1 (hb.mp z)
      · refine s_qIsTag_66 (ih _ (by omega) (j + 1) 0 rfl (by omega) (by omega) (Or.inl rfl) ⟨fun z => absurd z (by decide), fun z => ?_⟩)
        have := hb.mpr ⟨z.1, fun i i0 i1 => z.2 i i0 (by omega)⟩
        omega
      · have hb1 := hb.mp (by omega)
        have hat : atI l j = gt l j := if_pos ⟨by omega, by omega⟩
        have YES : (chSm (gt l j) ∨ chDg (gt l j) ∨ gt l j = 45) → W_qIsTag_62 e j τ Q := fun q => s_qIsTag_62 (ih _ (by omega) (j + 1) 1 rfl (by omega) (by omega) (Or.inr rfl) ⟨fun _ => ⟨hb1.1, fun i i0 i1 => by
          by_cases x : i = j
          · rw [x]; exact q
          · exact hb1.2 i i0 (by omega)⟩, fun _ => rfl⟩)
        refine t_qSee h ⟨by omega, by omega⟩ (fun r30 => t_qIsSmall (by omega) (fun hp r33 => ⟨fun _ => YES (Or.inl (by rw [← hat]; exact hp)), fun c0 => absurd c0 (by decide)⟩) (fun hp r33 => ⟨fun c0 => absurd rfl c0, fun _ => t_qSee h ⟨by omega, by omega⟩ (fun r42 => t_qIsDigit (by omega) (fun hp2 r45 => ⟨fun _ => YES (Or.inr (Or.inl (by rw [← hat]; exact hp2))), fun c0 => absurd c0 (by decide)⟩) (fun hp2 r45 => ⟨fun c0 => absurd rfl c0, fun _ => t_qSee h ⟨by omega, by omega⟩ (fun r54 => ⟨fun c59 => ?_, fun c59 => YES (Or.inr (Or.inr (by rw [← hat]; exact c59)))⟩)⟩))⟩))
        refine s_qIsTag_66 (ih _ (by omega) (j + 1) 0 rfl (by omega) (by omega) (Or.inl rfl) ⟨fun z => absurd z (by decide), fun z => ?_⟩)
        rcases z.2 j j0 (by omega) with y | y | y
        · rw [← hat] at y; exact absurd y hp
        · rw [← hat] at y; exact absurd y hp2
        · rw [← hat] at y; exact absurd y c59
  refine s_qIsTag ⟨by omega, fun c5 => L _ k 0 rfl (Int.le_refl _) hk.2.1 (Or.inl rfl) ⟨fun z => absurd z (by decide), fun z => absurd z.1 (by omega)⟩, fun c5 => L _ k 1 rfl (Int.le_refl _) hk.2.1 (Or.inr rfl) ⟨fun _ => ⟨by omega, fun i i0 i1 => absurd i1 (by omega)⟩, fun _ => rfl⟩⟩
theorem t_qIsLeap {Q : Int → TT → Prop} (hy : -2147483648 ≤ y ∧ y < 2147483648) (hQ1 : leapP y → Q 1 τ) (hQ0 : ¬ leapP y → Q 0 τ) : w_qIsLeap y τ Q :=
  s_qIsLeap ⟨hy, fun c => hQ0 (fun z => c z.1), fun c => ⟨fun d => hQ1 ⟨c, Or.inl d⟩, fun d => ⟨fun f => hQ0 (fun z => z.2.elim (fun w => w d) (fun w => f w)), fun f => hQ1 ⟨c, Or.inr f⟩⟩⟩⟩
theorem t_qMonthDays {Q : Int → TT → Prop} (hy : -2147483648 ≤ y ∧ y < 2147483648) (hm : -2147483648 ≤ m ∧ m < 2147483648) (hQ : Q (mdF y m) τ) : w_qMonthDays y m τ Q := by
  have E : ∀ x, mdF y m = x → Q x τ := fun x hx => hx ▸ hQ
  refine s_qMonthDays ⟨hm, fun c2 => ⟨fun c => E _ ?_, fun c => ⟨fun d => E _ ?_, fun d => ⟨fun f => E _ ?_, fun f => ⟨fun g => E _ ?_, fun g => E _ ?_⟩⟩⟩⟩, fun c2 => t_qIsLeap hy (fun z r6 => ⟨fun c0 => absurd c0 (by decide), fun _ => E _ ?_⟩) (fun z r6 => ⟨fun _ => E _ ?_, fun c0 => absurd rfl c0⟩)⟩
  · unfold mdF; rw [if_neg c2, if_pos (Or.inl c)]
  · unfold mdF; rw [if_neg c2, if_pos (Or.inr (Or.inl d))]
  · unfold mdF; rw [if_neg c2, if_pos (Or.inr (Or.inr (Or.inl f)))]
  · unfold mdF; rw [if_neg c2, if_neg (by omega)]
  · unfold mdF; rw [if_neg c2, if_pos (Or.inr (Or.inr (Or.inr g)))]
  · unfold mdF; rw [if_pos c2, if_pos z]
  · unfold mdF; rw [if_pos c2, if_neg z]
theorem rgI_s {v : Int} (h : -2147483648 ≤ v ∧ v ≤ 2147483647) : rgI v = v := by
  unfold rgI
  rw [show min v 2147483647 = v by omega]
  exact wI_id (by omega)
theorem t_qIsBytes {Q : Int → TT → Prop} (h : QTX τ l) (hk : 0 ≤ k ∧ k < e ∧ e ≤ len l) (hp : ∀ i, k ≤ i → i < e → gt l i ≠ 0)
    (hQ1 : ∀ τ', Fr τ τ' [297, 298] [] → rgBy (sub l k e) ≠ MNL → τ'.1 297 = rgI (rgBy (sub l k e)) → Q 1 τ') (hQ0 : rgBy (sub l k e) = MNL → Q 0 τ) : w_qIsBytes k e τ Q := by
  have hn := h.ln
  have h2 := h.2.2
  have hk2 : 0 ≤ k ∧ k ≤ e ∧ e ≤ len l := ⟨hk.1, by omega, hk.2.2⟩
  have hd := dgN_p hk2
  have hla := lasC_q hk
  have hD := t_qDigits (Q := fun x3 τ3 => True) h hk2 trivial
  clear hD
  -- what it is
  have hM : rgMul (sub l k e) = if gt l (e - 1) = 107 then 1024 else if gt l (e - 1) = 109 then 1048576 else 1 := by unfold rgMul; rw [hla]
  have B : ∀ (mu but : Int), rgMul (sub l k e) = mu → (if 1 < mu then (1 : Int) else 0) = but → rgBy (sub l k e) = if rgNum (sub l k e) but 7 < 0 then MNL else rgNum (sub l k e) but 7 * mu := fun mu but h1 h2 => by unfold rgBy; rw [h1, h2]
  have NO : ∀ (mu but : Int), rgMul (sub l k e) = mu → (if 1 < mu then (1 : Int) else 0) = but → rgNum (sub l k e) but 7 = -1 → Q 0 τ := fun mu but h1 h2 h3 => hQ0 (by rw [B mu but h1 h2, h3, if_pos (by decide)])
  -- the number is there
  have YES : ∀ (mu but : Int), (mu = 1 ∨ mu = 1024 ∨ mu = 1048576) → rgMul (sub l k e) = mu → (if 1 < mu then (1 : Int) else 0) = but → e - but - k = dgN l k e → 1 ≤ dgN l k e → dgN l k e ≤ 7 → W_qIsBytes_104 mu (nmU 0 (sub l k (k + dgN l k e))) τ Q := fun mu but hmu h1 h2 h3 h4 h5 => by
    have hb : 0 ≤ but := by rw [← h2]; split <;> omega
    have hnum := rgNum_q (but := but) (most := 7) hk2 hb (by omega) (by omega)
    rw [if_pos (by omega), show e - but = k + dgN l k e by omega] at hnum
    have hl8 := len_sub (l := l) (i := k) (n := k + dgN l k e) ⟨hk.1, by omega, by omega⟩
    have hv := nmU_bd (dg_sub (l := l) (k := k) (n := dgN l k e) ⟨hk.1, hd.1, by omega⟩ hd.2.2.1) (by unfold len at hl8; omega)
    have hBy := B mu but h1 h2
    rw [hnum, if_neg (by omega)] at hBy
    generalize nmU 0 (sub l k (k + dgN l k e)) = v at *
    have hvm : 0 ≤ v * mu ∧ v * mu < 9000000000000000 := by rcases hmu with z | z | z <;> rw [z] <;> omega
    have hne : rgBy (sub l k e) ≠ MNL := by rw [hBy]; show v * mu ≠ -9223372036854775808; omega
    refine s_qIsBytes_104 ⟨by omega, fun c120 => ⟨by omega, hQ1 _ ((Fr.rf.ps _ _).ps _ _) hne ?_⟩, fun c120 => hQ1 _ ((Fr.rf.ps _ _).ps _ _) hne ?_⟩
    · show v * mu = _
      rw [hBy, rgI_s ⟨by omega, c120⟩]
    · show (2147483647 : Int) = _
      rw [hBy]
      unfold rgI
      rw [show min (v * mu) 2147483647 = 2147483647 by omega]
      exact (wI_id (by decide)).symm
  have Y70 : ∀ (c : Int), ((c = 107 ∧ rgMul (sub l k e) = 1024 ∧ e - 1 - k = dgN l k e) ∨ (c = 109 ∧ rgMul (sub l k e) = 1048576 ∧ e - 1 - k = dgN l k e) ∨ (c = 0 ∧ rgMul (sub l k e) = 1 ∧ e - k = dgN l k e)) → 1 ≤ dgN l k e → dgN l k e ≤ 7 → W_qIsBytes_70 k (dgN l k e) c τ Q := fun c hc h1 h7 => by
    refine s_qIsBytes_70 (t_qNumber h ⟨hk.1, hd.1, by omega, by omega⟩ hd.2.2.1 (fun r73 => ⟨by omega, fun c81 => ⟨fun c94 => ?_, fun c94 => ?_⟩, fun c81 => ?_⟩))
    · rcases hc with z | z | z
      · exact absurd z.1 c81
      · exact absurd z.1 c94
      · exact YES 1 0 (Or.inl rfl) z.2.1 rfl (by omega) h1 h7
    · rcases hc with z | z | z
      · omega
      · exact YES 1048576 1 (Or.inr (Or.inr rfl)) z.2.1 rfl (by omega) h1 h7
      · omega
    · rcases hc with z | z | z
      · exact YES 1024 1 (Or.inr (Or.inl rfl)) z.2.1 rfl (by omega) h1 h7
      · omega
      · omega
  have hlast : dgN l k e < e - k → dgN l k e = e - 1 - k → k + dgN l k e = e - 1 := fun _ z => by omega
  -- the cases of the last character
  have hcase : (rgMul (sub l k e) = 1024 ∧ gt l (e - 1) = 107) ∨ (rgMul (sub l k e) = 1048576 ∧ gt l (e - 1) = 109) ∨ (rgMul (sub l k e) = 1 ∧ gt l (e - 1) ≠ 107 ∧ gt l (e - 1) ≠ 109) := by
    rw [hM]
    by_cases c1 : gt l (e - 1) = 107
    · left; rw [if_pos c1]; exact ⟨rfl, c1⟩
    · by_cases c2 : gt l (e - 1) = 109
      · right; left; rw [if_neg c1, if_pos c2]; exact ⟨rfl, c2⟩
      · right; right; rw [if_neg c1, if_neg c2]; exact ⟨rfl, c1, c2⟩
  have ndl : gt l (e - 1) = 107 ∨ gt l (e - 1) = 109 → dgN l k e ≤ e - 1 - k := fun z => Classical.byContradiction fun y => by
    have w := hd.2.2.1 (e - 1 - k) (by omega) (by omega)
    rw [show k + (e - 1 - k) = e - 1 by omega] at w
    have w2 : 48 ≤ gt l (e - 1) ∧ gt l (e - 1) ≤ 57 := w
    omega
  have BAD : (dgN l k e < 1 ∨ 7 < dgN l k e ∨ dgN l k e + 1 < e - k) → Q 0 τ := fun z => by
    rcases hcase with ⟨q1, q2⟩ | ⟨q1, q2⟩ | ⟨q1, q2, q3⟩
    · refine NO 1024 1 q1 rfl ?_
      by_cases w : e - 1 - k < 1 ∨ 7 < e - 1 - k
      · exact rgNum_o hk2 w
      · rw [rgNum_q hk2 (by decide) (by omega) (by omega), if_neg (by omega)]
    · refine NO 1048576 1 q1 rfl ?_
      by_cases w : e - 1 - k < 1 ∨ 7 < e - 1 - k
      · exact rgNum_o hk2 w
      · rw [rgNum_q hk2 (by decide) (by omega) (by omega), if_neg (by omega)]
    · refine NO 1 0 q1 rfl ?_
      by_cases w : e - 0 - k < 1 ∨ 7 < e - 0 - k
      · exact rgNum_o hk2 w
      · rw [rgNum_q hk2 (by decide) (by omega) (by omega), if_neg (by omega)]
  refine s_qIsBytes (t_qDigits h hk2 (fun r3 => ⟨fun c9 => BAD (Or.inl c9), fun c9 => ⟨fun c15 => BAD (Or.inr (Or.inl c15)), fun c15 => ⟨by omega, by omega, fun c24 => ⟨fun c33 => ?_, fun c33 => ?_⟩, fun c24 => BAD (Or.inr (Or.inr c24))⟩⟩⟩))
  · have hne : dgN l k e = e - 1 - k := by omega
    have hat : atI l (k + dgN l k e) = gt l (e - 1) := by
      rw [show k + dgN l k e = e - 1 by omega]
      exact if_pos ⟨by omega, by omega⟩
    refine t_qSee h ⟨by omega, by omega⟩ (fun r44 => ?_)
    rw [hat]
    have hz := hp (e - 1) (by omega) (by omega)
    refine s_qIsBytes_47 ⟨by rw [hat] at r44; exact r44, fun c51 => absurd c51 hz, fun _ => ⟨fun c58 => Y70 _ (Or.inl ⟨c58, ?_, hne.symm⟩) c9 c15, fun c58 => ⟨fun c65 => Y70 _ (Or.inr (Or.inl ⟨c65, ?_, hne.symm⟩)) c9 c15, fun c65 => ?_⟩⟩⟩
    · rw [hM, if_pos c58]
    · rw [hM, if_neg c58, if_pos c65]
    · refine NO 1 0 (by rw [hM, if_neg c58, if_neg c65]) rfl ?_
      by_cases w : e - 0 - k < 1 ∨ 7 < e - 0 - k
      · exact rgNum_o hk2 w
      · rw [rgNum_q hk2 (by decide) (by omega) (by omega), if_neg (by omega)]
  · have hdl : chDg (gt l (e - 1)) := by
      have w := hd.2.2.1 (e - 1 - k) (by omega) (by omega)
      rw [show k + (e - 1 - k) = e - 1 by omega] at w
      exact w
    have w2 : 48 ≤ gt l (e - 1) ∧ gt l (e - 1) ≤ 57 := hdl
    exact s_qIsBytes_47 ⟨by decide, fun _ => Y70 0 (Or.inr (Or.inr ⟨rfl, by rw [hM, if_neg (by omega), if_neg (by omega)], by omega⟩)) c9 c15, fun c51 => absurd rfl c51⟩
end QRG
