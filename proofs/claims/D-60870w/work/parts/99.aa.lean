/-! the twin: words of a query -/
set_option maxRecDepth 100000
/-- the query's text -/
def QTX (τ : TT) (l : List Int) : Prop := l = by8 (τ.2 178) 0 (τ.1 263) ∧ 0 ≤ τ.1 263 ∧ τ.1 263 ≤ 2000
section QLX
variable {τ τ' : TT} {l w : List Int} {k e c n : Int}
theorem QTX.fr (h : QTX τ l) (h1 : τ'.1 263 = τ.1 263) (h2 : τ'.2 178 = τ.2 178) : QTX τ' l := by unfold QTX; rw [h1, h2]; exact h
theorem QTX.ln (h : QTX τ l) : len l = τ.1 263 := by
  have h0 := h.2.1
  unfold len
  rw [h.1, by8_len]
  omega
theorem QTX.rd (h : QTX τ l) (hk : 0 ≤ k ∧ k < len l) : gt l k = τ.2 178 k % 256 := by
  have h0 := h.ln
  have z := by8_gt (f := τ.2 178) (n := τ.1 263) hk.1 (by omega)
  rw [← h.1] at z
  exact z
theorem QTX.bt (h : QTX τ l) : byt l := fun x hx => by
  rw [h.1] at hx
  obtain ⟨y, _, rfl⟩ := List.mem_map.mp hx
  show 0 ≤ _ % 256 ∧ _ % 256 < 256
  omega
theorem QTX.at (h : QTX τ l) : -1 ≤ atI l k ∧ atI l k < 256 := by
  unfold atI
  split
  · rename_i hk
    have := h.bt _ (gt_mem hk.1 hk.2)
    omega
  · omega
theorem t_qSee {Q : Int → TT → Prop} (h : QTX τ l) (hk : 0 ≤ k ∧ k < 2147483648) (hQ : Q (atI l k) τ) : w_qSee k τ Q := by
  have hn := h.ln
  have h2 := h.2.2
  refine s_qSee (fun r2 => ⟨by omega, fun c5 => ?_, fun c5 => ⟨by omega, fun r13 => ?_⟩⟩)
  · rw [show atI l k = -1 from if_neg (fun z => by omega)] at hQ; exact hQ
  · have e : atI l k = gt l k := if_pos ⟨hk.1, by omega⟩
    rw [e, h.rd ⟨hk.1, by omega⟩] at hQ
    exact hQ
theorem t_qIsPart {Q : Int → TT → Prop} (hc : -2147483648 ≤ c ∧ c < 2147483648) (hQ1 : chQP c → Q 1 τ) (hQ0 : ¬ chQP c → Q 0 τ) : w_qIsPart c τ Q :=
  s_qIsPart ⟨hc, fun c3 => hQ0 (by unfold chQP; omega), fun c3 => ⟨fun c9 => hQ0 (by unfold chQP; omega), fun c9 => ⟨fun d => hQ0 (by unfold chQP; omega), fun d => ⟨fun f => hQ0 (by unfold chQP; omega), fun f => ⟨fun g => hQ0 (by unfold chQP; omega), fun g => ⟨fun i => hQ0 (by unfold chQP; omega), fun i => hQ1 (by unfold chQP; omega)⟩⟩⟩⟩⟩⟩
theorem t_qIsSmall {Q : Int → TT → Prop} (hc : -2147483648 ≤ c ∧ c < 2147483648) (hQ1 : chSm c → Q 1 τ) (hQ0 : ¬ chSm c → Q 0 τ) : w_qIsSmall c τ Q :=
  s_qIsSmall ⟨hc, fun c3 => hQ0 (by unfold chSm; omega), fun c3 => ⟨fun c9 => hQ0 (by unfold chSm; omega), fun c9 => hQ1 (by unfold chSm; omega)⟩⟩
theorem t_qIsDigit {Q : Int → TT → Prop} (hc : -2147483648 ≤ c ∧ c < 2147483648) (hQ1 : chDg c → Q 1 τ) (hQ0 : ¬ chDg c → Q 0 τ) : w_qIsDigit c τ Q :=
  s_qIsDigit ⟨hc, fun c3 => hQ0 (by unfold chDg; omega), fun c3 => ⟨fun c9 => hQ0 (by unfold chDg; omega), fun c9 => hQ1 (by unfold chDg; omega)⟩⟩
theorem t_qIsSpace {Q : Int → TT → Prop} (hc : -2147483648 ≤ c ∧ c < 2147483648) (hQ1 : chBl c → Q 1 τ) (hQ0 : ¬ chBl c → Q 0 τ) : w_qIsSpace c τ Q :=
  s_qIsSpace ⟨hc, fun c3 => hQ1 (Or.inl c3), fun c3 => ⟨fun c9 => hQ0 (by unfold chBl; omega), fun c9 => hQ1 (Or.inr c9)⟩⟩
theorem atI_no (h : len l ≤ k) : atI l k = -1 := if_neg (fun z => by omega)
theorem t_qRunEnd {Q : Int → TT → Prop} (h : QTX τ l) (hk : 0 ≤ k ∧ k ≤ len l) (hQ : Q (peF l k) τ) : w_qRunEnd k τ Q := by
  have hn := h.ln
  have h2 := h.2.2
  have L : ∀ (N : Nat) (j : Int), (len l - j).toNat = N → 0 ≤ j → j ≤ len l → peF l k = peF l j → W_qRunEnd_2 j τ Q := by
    intro N
    induction N using Nat.strongRecOn with
    | ind N ih =>
      intro j hN j0 j1 hj
      have ha := h.at (k := j)
      refine s_qRunEnd_2 (t_qSee h ⟨j0, by omega⟩ (fun r4 => t_qIsPart (by omega) (fun hp r7 => ⟨fun c0 => absurd c0 (by decide), fun _ => ?_⟩) (fun hp r7 => ⟨fun _ => ⟨by omega, ?_⟩, fun c0 => absurd rfl c0⟩)))
      · have hkl : j < len l := Classical.byContradiction fun z => by
          rw [atI_no (by omega)] at hp
          exact absurd hp (by decide)
        rw [show atI l j = gt l j from if_pos ⟨j0, hkl⟩] at hp
        exact ih _ (by omega) (j + 1) rfl (by omega) (by omega) (by rw [hj, peF, dif_pos ⟨j0, hkl, hp⟩])
      · rw [hj, peF, dif_neg (fun z => hp (by rw [show atI l j = gt l j from if_pos ⟨z.1, z.2.1⟩]; exact z.2.2))] at hQ
        exact hQ
  exact s_qRunEnd (L _ k rfl hk.1 hk.2 rfl)
theorem smA_c (hk : 0 ≤ k ∧ k ≤ e ∧ e ≤ len l) : smA l k e = true ↔ (k < e ∧ ∀ i, k ≤ i → i < e → chSm (gt l i)) := by
  unfold smA
  rw [Bool.and_eq_true, decide_eq_true_iff, List.all_eq_true]
  refine ⟨fun z => ⟨z.1, fun i i0 i1 => ?_⟩, fun z => ⟨z.1, fun x hx => ?_⟩⟩
  · have y := gt_sub (l := l) (i := k) (n := e) hk (k := i - k) (by omega) (by omega)
    rw [show k + (i - k) = i by omega] at y
    have hm : gt (sub l k e) (i - k) ∈ sub l k e := gt_mem (by omega) (by rw [len_sub hk]; omega)
    rw [y] at hm
    exact of_decide_eq_true (z.2 _ hm)
  · obtain ⟨i, i0, i1, i2⟩ := mem_gt hx
    rw [len_sub hk] at i1
    rw [gt_sub hk i0 i1] at i2
    rw [← i2]
    exact decide_eq_true (z.2 _ (by omega) (by omega))
theorem t_qIsLetters {Q : Int → TT → Prop} (h : QTX τ l) (hk : 0 ≤ k ∧ k ≤ e ∧ e ≤ len l) (hQ1 : smA l k e = true → Q 1 τ) (hQ0 : ¬ smA l k e = true → Q 0 τ) : w_qIsLetters k e τ Q := by
  have hn := h.ln
  have h2 := h.2.2
  have hc := smA_c hk
  have L : ∀ (N : Nat) (j b : Int), (e - j).toNat = N → k ≤ j → j ≤ e → (b = 0 ∨ b = 1) → (b = 1 ↔ (k < e ∧ ∀ i, k ≤ i → i < j → chSm (gt l i))) → W_qIsLetters_14 e b j τ Q := by
    intro N
    induction N using Nat.strongRecOn with
    | ind N ih =>
      intro j b hN j0 j1 hb01 hb
      have ha := h.at (k := j)
      refine s_qIsLetters_14 ⟨by omega, by omega, fun c17 => ⟨hb01, ?_⟩, fun c17 => ⟨by omega, fun c21 => ?_, fun c21 => ?_⟩⟩
      · have ej : j = e := by omega
        rw [ej, ← hc] at hb
        rcases hb01 with z | z
        · rw [z]; exact hQ0 (fun y => by have := hb.mpr y; omega)
        · rw [z]; exact hQ1 (hb.mp z)
      · refine s_qIsLetters_40 (ih _ (by omega) (j + 1) 0 rfl (by omega) (by omega) (Or.inl rfl) ⟨fun z => absurd z (by decide), fun z => ?_⟩)
        have := hb.mpr ⟨z.1, fun i i0 i1 => z.2 i i0 (by omega)⟩
        omega
      · have hb1 := hb.mp (by omega)
        have hat : atI l j = gt l j := if_pos ⟨by omega, by omega⟩
        refine t_qSee h ⟨by omega, by omega⟩ (fun r27 => t_qIsSmall (by omega) (fun hp r30 => ⟨fun c0 => absurd c0 (by decide), fun _ => ?_⟩) (fun hp r30 => ⟨fun _ => ?_, fun c0 => absurd rfl c0⟩))
        · refine ih _ (by omega) (j + 1) 1 rfl (by omega) (by omega) (Or.inr rfl) ⟨fun _ => ⟨hb1.1, fun i i0 i1 => ?_⟩, fun _ => rfl⟩
          by_cases q : i = j
          · rw [q, ← hat]; exact hp
          · exact hb1.2 i i0 (by omega)
        · refine s_qIsLetters_40 (ih _ (by omega) (j + 1) 0 rfl (by omega) (by omega) (Or.inl rfl) ⟨fun z => absurd z (by decide), fun z => ?_⟩)
          have y := z.2 j j0 (by omega)
          rw [← hat] at y
          exact absurd y hp
  refine s_qIsLetters ⟨by omega, by omega, fun c2 => L _ k 0 rfl (Int.le_refl _) hk.2.1 (Or.inl rfl) ⟨fun z => absurd z (by decide), fun z => absurd z.1 (by omega)⟩, fun c2 => L _ k 1 rfl (Int.le_refl _) hk.2.1 (Or.inr rfl) ⟨fun _ => ⟨c2, fun i i0 i1 => absurd i1 (by omega)⟩, fun _ => rfl⟩⟩
/-- a word that a number holds, asked by arithmetic shifts -/
def pkT (w : List Int) : Bool := decide (len w ≤ 100) && (List.range w.length).all (fun n => decide (andL (shrL (pkN w) (8 * ((len w - 1) - (n : Int)))) 255 = gt w (n : Int) ∧ 0 ≤ gt w (n : Int) ∧ gt w (n : Int) < 256))
theorem pkT_at (h : pkT w = true) (hk : 0 ≤ k ∧ k < len w) : andL (shrL (pkN w) (8 * ((len w - 1) - k))) 255 = gt w k ∧ 0 ≤ gt w k ∧ gt w k < 256 := by
  unfold pkT at h
  rw [Bool.and_eq_true] at h
  have z := List.all_eq_true.mp h.2 k.toNat (List.mem_range.mpr (by unfold len at hk; omega))
  have y := of_decide_eq_true z
  rw [show ((k.toNat : Nat) : Int) = k by omega] at y
  exact y
theorem pkT_l (h : pkT w = true) : len w ≤ 100 := by
  unfold pkT at h
  rw [Bool.and_eq_true] at h
  exact of_decide_eq_true h.1
theorem t_qIsText {Q : Int → TT → Prop} (h : QTX τ l) (hw : pkT w = true) (hk : 0 ≤ k ∧ k ≤ e ∧ e ≤ len l) (hn : n = len w) (hQ1 : sub l k e = w → Q 1 τ) (hQ0 : ¬ sub l k e = w → Q 0 τ) : w_qIsText k e (pkN w) n τ Q := by
  subst hn
  have hln := h.ln
  have h2 := h.2.2
  have n0 := len_nn w
  have hls := len_sub hk
  have hwl := pkT_l hw
  have L : ∀ (N : Nat) (j b : Int), (len w - j).toNat = N → 0 ≤ j → j ≤ len w → (b = 0 ∨ b = 1) → (b = 1 → e - k = len w) → (b = 1 ↔ (e - k = len w ∧ ∀ i, 0 ≤ i → i < j → gt l (k + i) = gt w i)) → W_qIsText_18 k (pkN w) (len w) b j τ Q := by
    intro N
    induction N using Nat.strongRecOn with
    | ind N ih =>
      intro j b hN j0 j1 hb01 hbl hb
      have ha := h.at (k := k + j)
      have NO : b = 0 → Q b τ := fun z => by
        rw [z]
        refine hQ0 (fun y => ?_)
        have hl2 : e - k = len w := by rw [← y, hls]
        have := hb.mpr ⟨hl2, fun i i0 i1 => by rw [← y, gt_sub hk i0 (by omega)]⟩
        omega
      refine s_qIsText_18 ⟨by omega, by omega, fun c22 => ⟨hb01, ?_⟩, fun c22 => ⟨by omega, fun c27 => ⟨hb01, NO c27⟩, fun c27 => ?_⟩⟩
      · rcases hb01 with z | z
        · exact NO z
        · have y := hb.mp z
          rw [z]
          refine hQ1 (list_ext (by rw [hls]; exact y.1) (fun i i0 i1 => ?_))
          rw [hls] at i1
          rw [gt_sub hk i0 i1]
          exact y.2 i i0 (by omega)
      · have y := hb.mp (by omega)
        have hb8 := (pkT_at hw ⟨j0, c22⟩).2
        have hat : atI l (k + j) = gt l (k + j) := if_pos ⟨by omega, by omega⟩
        refine t_qSee h ⟨by omega, by omega⟩ (fun r35 => ?_)
        rw [(pkT_at hw ⟨j0, c22⟩).1]
        refine ⟨by omega, fun c55 => ?_, fun c55 => ?_⟩
        · refine ih _ (by omega) (j + 1) 0 rfl (by omega) (by omega) (Or.inl rfl) (fun z => absurd z (by decide)) ⟨fun z => absurd z (by decide), fun z => ?_⟩
          exact absurd (hat.trans (z.2 j j0 (by omega))) c55
        · refine ih _ (by omega) (j + 1) 1 rfl (by omega) (by omega) (Or.inr rfl) (fun _ => y.1) ⟨fun _ => ⟨y.1, fun i i0 i1 => ?_⟩, fun _ => rfl⟩
          by_cases q : i = j
          · rw [q, ← hat]; exact c55
          · exact y.2 i i0 (by omega)
  refine s_qIsText ⟨by omega, by omega, fun c5 => L _ 0 0 rfl (Int.le_refl 0) n0 (Or.inl rfl) (fun z => absurd z (by decide)) ⟨fun z => absurd z (by decide), fun z => absurd z.1 c5⟩, fun c5 => L _ 0 1 rfl (Int.le_refl 0) n0 (Or.inr rfl) (fun _ => c5) ⟨fun _ => ⟨c5, fun i i0 i1 => absurd i1 (by omega)⟩, fun _ => rfl⟩⟩
abbrev kAND : List Int := [97, 110, 100]
abbrev kOR : List Int := [111, 114]
abbrev kXOR : List Int := [120, 111, 114]
abbrev kNOT : List Int := [110, 111, 116]
/-- which operator a word is -/
def opQ (t : List Int) : Int := if t = kAND then 3 else if t = kOR then 1 else if t = kXOR then 2 else if t = kNOT then 4 else -1
theorem t_qOperator {Q : Int → TT → Prop} (h : QTX τ l) (hk : 0 ≤ k ∧ k ≤ e ∧ e ≤ len l) (hQ : Q (opQ (sub l k e)) τ) : w_qOperator k e τ Q := by
  unfold opQ at hQ
  refine s_qOperator ?_
  rw [show (6385252 : Int) = pkN kAND by decide +kernel, show (28530 : Int) = pkN kOR by decide +kernel, show (7892850 : Int) = pkN kXOR by decide +kernel, show (7237492 : Int) = pkN kNOT by decide +kernel]
  refine t_qIsText h (by decide +kernel) hk rfl (fun y r7 => ⟨fun c0 => absurd c0 (by decide), fun _ => ?_⟩) (fun y r7 => ⟨fun _ => ?_, fun c0 => absurd rfl c0⟩)
  · rw [if_pos y] at hQ; exact hQ
  rw [if_neg y] at hQ
  refine t_qIsText h (by decide +kernel) hk rfl (fun y r7 => ⟨fun c0 => absurd c0 (by decide), fun _ => ?_⟩) (fun y r7 => ⟨fun _ => ?_, fun c0 => absurd rfl c0⟩)
  · rw [if_pos y] at hQ; exact hQ
  rw [if_neg y] at hQ
  refine t_qIsText h (by decide +kernel) hk rfl (fun y r7 => ⟨fun c0 => absurd c0 (by decide), fun _ => ?_⟩) (fun y r7 => ⟨fun _ => ?_, fun c0 => absurd rfl c0⟩)
  · rw [if_pos y] at hQ; exact hQ
  rw [if_neg y] at hQ
  refine t_qIsText h (by decide +kernel) hk rfl (fun y r7 => ⟨fun c0 => absurd c0 (by decide), fun _ => ?_⟩) (fun y r7 => ⟨fun _ => ?_, fun c0 => absurd rfl c0⟩)
  · rw [if_pos y] at hQ; exact hQ
  · rw [if_neg y] at hQ; exact hQ
/-- a word as a number of letters -/
def p27 : List Int → Int
  | [] => 0
  | c :: r => 27 * p27 r + (c - 96)
theorem p27_nn : ∀ {t : List Int}, (∀ c, c ∈ t → chSm c) → 0 ≤ p27 t
  | [], _ => Int.le_refl 0
  | c :: r, h => by
    have h1 := p27_nn (t := r) (fun x hx => h x (List.mem_cons_of_mem _ hx))
    have h2 := h c (List.mem_cons_self ..)
    unfold chSm at h2
    show 0 ≤ 27 * p27 r + (c - 96)
    omega
theorem p27_inj : ∀ {s t : List Int}, (∀ c, c ∈ s → chSm c) → (∀ c, c ∈ t → chSm c) → p27 s = p27 t → s = t
  | [], [], _, _, _ => rfl
  | [], c :: r, _, h, e => by
    have h1 := p27_nn (t := r) (fun x hx => h x (List.mem_cons_of_mem _ hx))
    have h2 := h c (List.mem_cons_self ..)
    unfold chSm at h2
    have e : 0 = 27 * p27 r + (c - 96) := e
    omega
  | c :: r, [], h, _, e => by
    have h1 := p27_nn (t := r) (fun x hx => h x (List.mem_cons_of_mem _ hx))
    have h2 := h c (List.mem_cons_self ..)
    unfold chSm at h2
    have e : 27 * p27 r + (c - 96) = 0 := e
    omega
  | c :: r, d :: q, h, g, e => by
    have h2 := h c (List.mem_cons_self ..)
    have g2 := g d (List.mem_cons_self ..)
    unfold chSm at h2 g2
    have e : 27 * p27 r + (c - 96) = 27 * p27 q + (d - 96) := e
    have e1 : c = d := by omega
    have e2 : p27 r = p27 q := by omega
    rw [e1, p27_inj (s := r) (t := q) (fun x hx => h x (List.mem_cons_of_mem _ hx)) (fun x hx => g x (List.mem_cons_of_mem _ hx)) e2]
theorem p27_lt : ∀ {t : List Int}, (∀ c, c ∈ t → chSm c) → p27 t < 27 ^ t.length
  | [], _ => by decide
  | c :: r, h => by
    have h1 := p27_lt (t := r) (fun x hx => h x (List.mem_cons_of_mem _ hx))
    have h2 := h c (List.mem_cons_self ..)
    unfold chSm at h2
    show 27 * p27 r + (c - 96) < 27 ^ (r.length + 1)
    rw [Int.pow_succ]
    omega
theorem p27_bd {t : List Int} (h : ∀ c, c ∈ t → chSm c) (hl : t.length ≤ 10) : -9223372036854775808 ≤ p27 t ∧ p27 t < 9223372036854775808 := by
  have a := p27_nn h
  have b := p27_lt h
  have c : ∀ n : Nat, n < 11 → (27 : Int) ^ n ≤ 205891132094649 := by decide
  have d := c _ (show t.length < 11 by omega)
  omega
/-- the names of fields -/
def fldN : List (List Int) := tb_X1_fieldOf.map (fun p => p.1)
theorem fldN_n : cl_qFieldNames = fldN.map (fun t => p27 t.reverse) := by decide +kernel
theorem fldN_o : ∀ i : Nat, i < 12 → foF (fldN.getD i []) = (i : Int) + 1 := by decide +kernel
theorem fldN_c : ∀ t, t ∈ fldN → (∀ c, c ∈ t → chSm c) ∧ len t ≤ 10 := by
  have F : (fldN.all fun t => (t.all fun c => decide (chSm c)) && decide (len t ≤ 10)) = true := by decide +kernel
  intro t ht
  have y := List.all_eq_true.mp F t ht
  rw [Bool.and_eq_true] at y
  exact ⟨fun c hc => of_decide_eq_true (List.all_eq_true.mp y.1 c hc), of_decide_eq_true y.2⟩
theorem foF_out {t : List Int} (h : t ∉ fldN) : foF t = -1 := by
  have e : lkI tb_X1_fieldOf t = -1 := lkI_none (fun p hp z => h (by rw [← z]; exact List.mem_map_of_mem hp))
  unfold foF
  rw [e, if_pos (by decide)]
theorem t_qFieldOf {Q : Int → TT → Prop} (h : QTX τ l) (hk : 0 ≤ k ∧ k ≤ e ∧ e ≤ len l) (hs : smA l k e = true) (hQ : Q (foF (sub l k e)) τ) : w_qFieldOf k e τ Q := by
  have hln := h.ln
  have h2 := h.2.2
  have hls := len_sub hk
  obtain ⟨hke, hsm⟩ := (smA_c hk).mp hs
  have hS : ∀ c, c ∈ sub l k e → chSm c := fun c hc => by
    obtain ⟨i, i0, i1, i2⟩ := mem_gt hc
    rw [hls] at i1
    rw [gt_sub hk i0 i1] at i2
    rw [← i2]
    exact hsm _ (by omega) (by omega)
  refine s_qFieldOf ⟨by omega, fun c5 => ?_, fun c5 => ?_⟩
  rotate_left
  · rw [foF_out (fun z => by have := (fldN_c _ z).2; omega)] at hQ
    exact hQ
  -- the search
  have S : ∀ (N : Nat) (f : Int), (12 - f).toNat = N → 0 ≤ f → f ≤ 12 → (∀ i : Nat, (i : Int) < f → fldN.getD i [] ≠ sub l k e) → W_qFieldOf_48 (p27 (sub l k e).reverse) f τ Q := by
    intro N
    induction N using Nat.strongRecOn with
    | ind N ih =>
      intro f hN f0 f1 hf
      have hl12 : fldN.length = 12 := by decide
      refine s_qFieldOf_48 ⟨by omega, fun c52 => ?_, fun c52 => ⟨by omega, fun r61 kr61 => ?_⟩⟩
      · rw [foF_out (fun z => ?_)] at hQ
        · exact hQ
        obtain ⟨i, hi, hie⟩ := List.getElem_of_mem z
        refine hf i (by omega) ?_
        rw [List.getD_eq_getElem?_getD, List.getElem?_eq_getElem hi]
        exact hie
      · have hfl : f.toNat < fldN.length := by omega
        have e1 : cl_qFieldNames.getD f.toNat 0 = p27 (fldN.getD f.toNat []).reverse := by
          rw [fldN_n, List.getD_eq_getElem?_getD, List.getD_eq_getElem?_getD, List.getElem?_map, List.getElem?_eq_getElem hfl]
          rfl
        rw [kr61, e1]
        have hb : -9223372036854775808 ≤ p27 (sub l k e).reverse ∧ p27 (sub l k e).reverse < 9223372036854775808 := p27_bd (fun c hc => hS c (List.mem_reverse.mp hc)) (by rw [List.length_reverse]; unfold len at hls; omega)
        refine ⟨hb, fun c64 => ih _ (by omega) (f + 1) rfl (by omega) (by omega) (fun i hi => ?_), fun c64 => ⟨by omega, ?_⟩⟩
        · rcases Int.lt_or_eq_of_le (show (i : Int) ≤ f by omega) with z | z
          · exact hf i z
          · intro y
            rw [show i = f.toNat by omega] at y
            rw [y] at c64
            exact c64 rfl
        · have hmem : fldN.getD f.toNat [] ∈ fldN := by
            rw [List.getD_eq_getElem?_getD, List.getElem?_eq_getElem hfl]
            exact List.getElem_mem hfl
          have e2 := p27_inj (fun c hc => (fldN_c _ hmem).1 c (List.mem_reverse.mp hc)) (fun c hc => hS c (List.mem_reverse.mp hc)) c64
          have e3 : fldN.getD f.toNat [] = sub l k e := by
            have y := congrArg List.reverse e2
            rw [List.reverse_reverse, List.reverse_reverse] at y
            exact y
          rw [← e3, fldN_o f.toNat (by omega), show ((f.toNat : Nat) : Int) = f by omega] at hQ
          exact hQ
  -- the number
  have L : ∀ (N : Nat) (j v : Int), (e - j).toNat = N → k ≤ j → j ≤ e → v = p27 (sub l k j).reverse → W_qFieldOf_15 e v j τ Q := by
    intro N
    induction N using Nat.strongRecOn with
    | ind N ih =>
      intro j v hN j0 j1 hv
      refine s_qFieldOf_15 ⟨by omega, by omega, fun c18 => ?_, fun c18 => t_qSee h ⟨by omega, by omega⟩ (fun r29 => ?_)⟩
      · have ej : j = e := by omega
        rw [hv, ej]
        exact S _ 0 rfl (Int.le_refl 0) (by decide) (fun i hi => absurd hi (by omega))
      · have hat : atI l j = gt l j := if_pos ⟨by omega, by omega⟩
        refine ih _ (by omega) (j + 1) _ rfl (by omega) (by omega) ?_
        have e2 : sub l k (j + 1) = sub l k j ++ [gt l j] := sub_snoc ⟨hk.1, j0, by omega⟩
        rw [e2, List.reverse_append, hat, hv]
        show _ = 27 * p27 (sub l k j).reverse + (gt l j - 96)
        omega
  refine L _ k 0 rfl (Int.le_refl _) hk.2.1 ?_
  have e0 : sub l k k = [] := by
    refine List.eq_nil_of_length_eq_zero ?_
    have := len_sub (l := l) (i := k) (n := k) ⟨hk.1, Int.le_refl _, by omega⟩
    unfold len at this
    omega
  rw [e0]; rfl
end QLX
