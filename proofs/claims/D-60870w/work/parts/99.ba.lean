/-! the twin: names of files -/
set_option maxRecDepth 100000
/-- a row of bytes within an array -/
def BYR (τ : TT) (id at_ : Int) (l : List Int) : Prop := ttg id = 101 ∧ (0 ≤ at_ ∧ at_ + len l ≤ tlen id) ∧ tlen id < 1000000 ∧ ∀ i, 0 ≤ i → i < len l → τ.2 id (at_ + i) % 256 = gt l i
section NAM
variable {τ τ' : TT} {l m la lb : List Int} {id at_ a i b j k x y z c n : Int}
theorem BYR.fr (h : BYR τ id at_ l) (e : τ'.2 id = τ.2 id) : BYR τ' id at_ l := ⟨h.1, h.2.1, h.2.2.1, fun i i0 i1 => by rw [e]; exact h.2.2.2 i i0 i1⟩
theorem BYR.bt (h : BYR τ id at_ l) (hk : 0 ≤ k ∧ k < len l) : 0 ≤ gt l k ∧ gt l k < 256 := by rw [← h.2.2.2 k hk.1 hk.2]; omega
theorem t_compare {Q : Int → TT → Prop} (ha : BYR τ a i la) (hb : BYR τ b j lb) (hQ : Q (cmpL la lb) τ) : w_compare a i (len la) b j (len lb) τ Q := by
  obtain ⟨a1, a2, a3, a4⟩ := ha
  obtain ⟨b1, b2, b3, b4⟩ := hb
  have na := len_nn la
  have nb := len_nn lb
  have L : ∀ (N : Nat) (k : Int), (len la - k).toNat = N → 0 ≤ k → k ≤ len la → k ≤ len lb → cmpL la lb = cmpL (la.drop k.toNat) (lb.drop k.toNat) → W_compare_3 a i (len la) b j (len lb) k τ Q := by
    intro N
    induction N using Nat.strongRecOn with
    | ind N ih =>
      intro k hN k0 k1 k2 hk
      have E : (len la ≤ k ∨ len lb ≤ k) → W_compare_38 a i (len la) b j (len lb) k τ Q := fun z => by
        have e := cmpL_dl k0 z k1 k2
        rw [← hk] at e
        rw [e] at hQ
        refine s_compare_38 ⟨by omega, by omega, fun c41 => ⟨by omega, hQ⟩, fun c41 => ⟨by omega, fun c48 => ⟨by omega, hQ⟩, fun c48 => absurd z (by omega)⟩⟩
      refine s_compare_3 ⟨by omega, by omega, fun c6 => E (Or.inl c6), fun c6 => ⟨by omega, fun c13 => E (Or.inr c13), fun c13 => ⟨a1, by omega, fun r21 => ⟨b1, by omega, fun r28 => ?_⟩⟩⟩⟩
      have ga := a4 k k0 c6
      have gb := b4 k k0 c13
      have e := cmpL_drop k0 c6 c13
      refine ⟨fun c29 => ?_, fun c29 => ih _ (by omega) (k + 1) rfl (by omega) (by omega) (by omega) ?_⟩
      · rw [if_neg (by rw [← ga, ← gb]; omega), ← hk] at e
        rw [e, ← ga, ← gb] at hQ
        exact s_compare_38 ⟨by omega, by omega, fun c41 => by omega, fun c41 => ⟨by omega, fun c48 => by omega, fun c48 => ⟨a1, by omega, fun r56 => ⟨b1, by omega, fun r67 => hQ⟩⟩⟩⟩
      · rw [if_pos (by rw [← ga, ← gb, c29])] at e
        rw [hk, e]
  exact s_compare (L _ 0 rfl (Int.le_refl 0) na nb rfl)
theorem t_small {Q : Int → TT → Prop} (hc : -2147483648 ≤ c ∧ c < 2147483000) (hQ : Q (lowB c) τ) : w_small c τ Q := by
  have e : ∀ x, lowB c = x → Q x τ := fun x hx => hx ▸ hQ
  exact s_small ⟨by omega, fun c3 => e _ (if_neg (by omega)), fun c3 => ⟨fun c9 => e _ (if_neg (by omega)), fun c9 => ⟨by omega, e _ (if_pos (by omega))⟩⟩⟩
theorem slF_in (l : List Int) : -1 ≤ slF l ∧ slF l < len l ∧ (0 ≤ slF l → gt l (slF l) = 47) := by
  have F : ∀ n : Nat, -1 ≤ laF l 47 n ∧ laF l 47 n < (n : Int) ∧ (0 ≤ laF l 47 n → gt l (laF l 47 n) = 47) := by
    intro n
    induction n with
    | zero => exact ⟨Int.le_refl _, by show (-1 : Int) < 0; decide, fun z => absurd z (by show ¬ (0 : Int) ≤ -1; decide)⟩
    | succ n ih =>
      unfold laF
      split
      · rename_i h
        exact ⟨by omega, by omega, fun _ => h⟩
      · exact ⟨ih.1, by omega, ih.2.2⟩
  have z := F l.length
  unfold slF
  unfold len
  omega
theorem t_slash {Q : Int → TT → Prop} (h : BYR τ id at_ l) (hQ : Q (slF l) τ) : w_slash id at_ (len l) τ Q := by
  obtain ⟨a1, a2, a3, a4⟩ := h
  have L : ∀ (n : Nat), (n : Int) ≤ len l → slF l = laF l 47 n → W_slash_4 id at_ ((n : Int) - 1) τ Q := by
    intro n
    induction n with
    | zero =>
      intro hn hs
      have e : slF l = -1 := hs
      rw [e] at hQ
      exact s_slash_4 ⟨by decide, fun _ => hQ, fun c5 => absurd c5 (by decide)⟩
    | succ n ih =>
      intro hn hs
      rw [show ((n + 1 : Nat) : Int) - 1 = (n : Int) by omega]
      have g := a4 (n : Int) (by omega) (by omega)
      have e : laF l 47 (n + 1) = if gt l n = 47 then (n : Int) else laF l 47 n := rfl
      rw [e] at hs
      refine s_slash_4 ⟨by omega, fun c5 => by omega, fun c5 => ⟨a1, by omega, fun r12 => ⟨fun c15 => ?_, fun c15 => ?_⟩⟩⟩
      · rw [if_pos (by rw [← g, c15]; decide)] at hs
        rw [hs] at hQ; exact hQ
      · rw [if_neg (by rw [← g]; omega)] at hs
        exact ih (by omega) hs
  have z := L l.length (Int.le_refl _) rfl
  exact s_slash z
theorem t_isAt {Q : Int → TT → Prop} (h : BYR τ id at_ l) (hk : 0 ≤ k ∧ k ≤ len l + 2) (hc : 0 ≤ c ∧ c < 128) (hQ1 : k < len l ∧ gt l k = c → Q 1 τ) (hQ0 : ¬ (k < len l ∧ gt l k = c) → Q 0 τ) : w_isAt id (at_ + k) (at_ + len l) c τ Q := by
  obtain ⟨a1, a2, a3, a4⟩ := h
  have nl := len_nn l
  refine s_isAt ⟨by omega, by omega, fun c2 => hQ0 (by omega), fun c2 => ⟨a1, by omega, fun r7 => ?_⟩⟩
  have g := a4 k hk.1 (by omega)
  exact ⟨by omega, fun c9 => hQ0 (fun z => c9 (by have := z.2; omega)), fun c9 => hQ1 ⟨by omega, by rw [← g, c9]; omega⟩⟩
theorem dirB_3 : dirB l [x, y, z] = true ↔ (3 ≤ len l ∧ (len l = 3 ∨ gt l (len l - 4) = 47) ∧ gt l (len l - 3) = x ∧ gt l (len l - 2) = y ∧ gt l (len l - 1) = z) := by
  have e3 : len [x, y, z] = 3 := rfl
  unfold dirB
  rw [Bool.and_eq_true, Bool.and_eq_true, Bool.or_eq_true, decide_eq_true_iff, decide_eq_true_iff, decide_eq_true_iff, decide_eq_true_iff, e3, show len l - 3 - 1 = len l - 4 by omega]
  refine ⟨fun q => ?_, fun q => ⟨q.1, q.2.1, ?_⟩⟩
  · obtain ⟨q1, q2, q3⟩ := q
    have g : ∀ i, 0 ≤ i → i < 3 → gt l (len l - 3 + i) = gt [x, y, z] i := fun i i0 i1 => by
      rw [← q3, gt_drop (by omega) i0, Int.add_comm]
    have g0 := g 0 (by decide) (by decide)
    have g1 := g 1 (by decide) (by decide)
    have g2 := g 2 (by decide) (by decide)
    rw [Int.add_zero] at g0
    rw [show len l - 3 + 1 = len l - 2 by omega] at g1
    rw [show len l - 3 + 2 = len l - 1 by omega] at g2
    exact ⟨q1, q2, g0, g1, g2⟩
  · obtain ⟨q1, q2, q3, q4, q5⟩ := q
    have hd : len (l.drop (len l - 3).toNat) = 3 := by
      show ((l.drop (len l - 3).toNat).length : Int) = 3
      rw [List.length_drop]
      unfold len at *
      omega
    refine list_ext (by rw [hd]; rfl) (fun i i0 i1 => ?_)
    rw [hd] at i1
    rw [gt_drop (by omega) i0]
    rcases (show i = 0 ∨ i = 1 ∨ i = 2 by omega) with w | w | w
    · rw [w, Int.zero_add]; exact q3
    · rw [w, show 1 + (len l - 3) = len l - 2 by omega]; exact q4
    · rw [w, show 2 + (len l - 3) = len l - 1 by omega]; exact q5
theorem t_ends {Q : Int → TT → Prop} (h : BYR τ id at_ l) (hx : 0 ≤ x ∧ x < 128) (hy : 0 ≤ y ∧ y < 128) (hz : 0 ≤ z ∧ z < 128) (hQ1 : dirB l [x, y, z] = true → Q 1 τ) (hQ0 : ¬ dirB l [x, y, z] = true → Q 0 τ) : w_ends id at_ (len l) x y z τ Q := by
  obtain ⟨a1, a2, a3, a4⟩ := h
  have nl := len_nn l
  rw [dirB_3] at hQ1 hQ0
  refine s_ends ⟨by omega, fun c2 => hQ0 (by omega), fun c2 => ⟨a1, by omega, fun r11 => ⟨by omega, ?_⟩⟩⟩
  have g3 := a4 (len l - 3) (by omega) (by omega)
  have g2 := a4 (len l - 2) (by omega) (by omega)
  have g1 := a4 (len l - 1) (by omega) (by omega)
  rw [show at_ + (len l - 3) = at_ + len l - 3 by omega] at g3
  rw [show at_ + (len l - 2) = at_ + len l - 2 by omega] at g2
  rw [show at_ + (len l - 1) = at_ + len l - 1 by omega] at g1
  refine ⟨fun c13 => hQ0 (fun w => c13 (by have := w.2.2.1; omega)), fun c13 => ⟨by omega, fun r22 => ⟨by omega, fun c25 => hQ0 (fun w => c25 (by have := w.2.2.2.1; omega)), fun c25 => ⟨by omega, fun r34 => ⟨by omega, fun c37 => hQ0 (fun w => c37 (by have := w.2.2.2.2; omega)), fun c37 => ⟨fun c42 => hQ1 ⟨c2, Or.inl c42, by omega, by omega, by omega⟩, fun c42 => ?_⟩⟩⟩⟩⟩⟩
  have g4 := a4 (len l - 4) (by omega) (by omega)
  rw [show at_ + (len l - 4) = at_ + len l - 4 by omega] at g4
  exact ⟨by omega, fun r51 => ⟨fun c54 => hQ0 (fun w => c54 (by rcases w.2.1 with v | v <;> omega)), fun c54 => hQ1 ⟨c2, Or.inr (by omega), by omega, by omega, by omega⟩⟩⟩
theorem BYR.lo (h : BYR τ id at_ l) (hk : 0 ≤ k ∧ k ≤ len l) : BYR τ id at_ (sub l 0 k) ∧ len (sub l 0 k) = k := by
  have hl := len_sub (l := l) (i := 0) (n := k) ⟨Int.le_refl 0, hk.1, hk.2⟩
  refine ⟨⟨h.1, by have := h.2.1; omega, h.2.2.1, fun i i0 i1 => ?_⟩, by omega⟩
  rw [gt_sub ⟨Int.le_refl 0, hk.1, hk.2⟩ i0 (by omega), Int.zero_add]
  exact h.2.2.2 i i0 (by omega)
theorem lbI_c (hs : 0 ≤ slF l) : lbI l = true ↔ ((dirB (lbD l) [110, 101, 119] = true ∨ dirB (lbD l) [99, 117, 114] = true) ∧ slF l + 1 < len l ∧ gt l (slF l + 1) ≠ 46 ∧ gt l (slF l + 1) ≠ 58) := by
  have hi := slF_in l
  have hn := len_sub (l := l) (i := slF l + 1) (n := len l) ⟨by omega, by omega, Int.le_refl _⟩
  have hne : lbN l = [] ↔ ¬ slF l + 1 < len l := by
    constructor
    · intro w y
      unfold lbN at w
      rw [w] at hn
      have hn : (0 : Int) = len l - (slF l + 1) := hn
      omega
    · intro w
      exact List.eq_nil_of_length_eq_zero (by unfold lbN; unfold len at hn; unfold len at w; unfold len; omega)
  have hg : slF l + 1 < len l → gt (lbN l) 0 = gt l (slF l + 1) := fun w => by
    unfold lbN
    rw [gt_sub ⟨by omega, by omega, Int.le_refl _⟩ (Int.le_refl 0) (by omega), Int.add_zero]
  unfold lbI
  rw [Bool.and_eq_true, Bool.or_eq_true, Bool.and_eq_true, Bool.and_eq_true, Bool.not_eq_true', Bool.not_eq_true', Bool.not_eq_true', decide_eq_false_iff_not, decide_eq_false_iff_not, decide_eq_false_iff_not, hne]
  constructor
  · rintro ⟨w1, w2, w3, w4⟩
    have w2 := Classical.not_not.mp w2
    rw [hg w2] at w3 w4
    exact ⟨w1, w2, w3, w4⟩
  · rintro ⟨w1, w2, w3, w4⟩
    rw [hg w2]
    exact ⟨w1, Classical.not_not.mpr w2, w3, w4⟩
theorem t_sort {Q : Int → TT → Prop} (h : BYR τ id at_ l) (hQ : Q (lbS l) τ) : w_sort id at_ (len l) τ Q := by
  have hi := slF_in l
  have nl := len_nn l
  have h' := h
  obtain ⟨a1, a2, a3, a4⟩ := h
  unfold lbS at hQ
  refine s_sort (t_slash h' (fun r3 => ⟨fun c8 => ?_, fun c8 => ?_⟩))
  · rw [if_neg (by omega)] at hQ
    obtain ⟨d1, d2⟩ := h'.lo (k := slF l) ⟨c8, by omega⟩
    have hI := lbI_c c8
    have E114 : (dirB (lbD l) [110, 101, 119] = true ∨ dirB (lbD l) [99, 117, 114] = true) → W_sort_114 id at_ (len l) (slF l) τ Q := fun w => by
      refine s_sort_114 ⟨by omega, by omega, fun c118 => ?_, fun c118 => ⟨a1, by omega, fun r127 => ?_⟩⟩
      · rw [if_neg (fun y => by have := (hI.mp y).2.1; omega)] at hQ; exact hQ
      · have g := a4 (slF l + 1) (by omega) c118
        rw [show at_ + (slF l + 1) = at_ + slF l + 1 by omega] at g
        refine ⟨fun c130 => ?_, fun c130 r139 => ⟨fun c142 => ?_, fun c142 => ?_⟩⟩
        · rw [if_neg (fun y => (hI.mp y).2.2.1 (by omega))] at hQ; exact hQ
        · rw [if_neg (fun y => (hI.mp y).2.2.2 (by omega))] at hQ; exact hQ
        · rw [if_pos (hI.mpr ⟨w, c118, by omega, by omega⟩)] at hQ; exact hQ
    have e1 := t_ends (Q := fun x91 τ91 => ∀ (_ : x91 = 0 ∨ x91 = 1), (∀ (_ : ¬ x91 = 0), W_sort_114 id at_ (len l) (slF l) τ91 Q) ∧ (∀ (_ : x91 = 0), w_ends id at_ (slF l) 110 101 119 τ91 (fun x106 τ106 => ∀ (_ : x106 = 0 ∨ x106 = 1), (∀ (_ : ¬ x106 = 0), W_sort_114 id at_ (len l) (slF l) τ106 Q) ∧ (∀ (_ : x106 = 0), Q 0 τ106)))) (x := 99) (y := 117) (z := 114) d1 (by decide) (by decide) (by decide) (fun w r91 => ⟨fun _ => E114 (Or.inr w), fun c => absurd c (by decide)⟩) (fun w r91 => ⟨fun c => absurd rfl c, fun _ => ?_⟩)
    · rw [d2] at e1; exact e1
    · have e2 := t_ends (Q := fun x106 τ106 => ∀ (_ : x106 = 0 ∨ x106 = 1), (∀ (_ : ¬ x106 = 0), W_sort_114 id at_ (len l) (slF l) τ106 Q) ∧ (∀ (_ : x106 = 0), Q 0 τ106)) (x := 110) (y := 101) (z := 119) d1 (by decide) (by decide) (by decide) (fun w2 r106 => ⟨fun _ => E114 (Or.inl w2), fun c => absurd c (by decide)⟩) (fun w2 r106 => ⟨fun c => absurd rfl c, fun _ => ?_⟩)
      · rw [d2] at e2; exact e2
      · rw [if_neg (fun y => (hI.mp y).1.elim w2 w)] at hQ; exact hQ
  · rw [if_pos c8] at hQ
    refine ⟨by omega, fun c13 => ?_, fun c13 => ⟨a1, by omega, fun r22 => ?_⟩⟩
    · rw [if_neg (fun y => by omega)] at hQ; exact hQ
    have g : ∀ i, 0 ≤ i → i < 5 → τ.2 id (at_ + len l - 5 + i) % 256 = gt l (len l - 5 + i) := fun i i0 i1 => by
      rw [← a4 (len l - 5 + i) (by omega) (by omega)]
      rw [show at_ + (len l - 5 + i) = at_ + len l - 5 + i by omega]
    have g0 := g 0 (by decide) (by decide)
    have g1 := g 1 (by decide) (by decide)
    have g2 := g 2 (by decide) (by decide)
    have g3 := g 3 (by decide) (by decide)
    have g4 := g 4 (by decide) (by decide)
    rw [Int.add_zero, Int.add_zero] at g0
    rw [show at_ + len l - 5 + 1 = at_ + len l - 4 by omega] at g1
    rw [show at_ + len l - 5 + 2 = at_ + len l - 3 by omega] at g2
    rw [show at_ + len l - 5 + 3 = at_ + len l - 2 by omega] at g3
    rw [show at_ + len l - 5 + 4 = at_ + len l - 1 by omega] at g4
    have hM : pAtB l MBOX (len l - 5) = true ↔ (gt l (len l - 5) = 46 ∧ gt l (len l - 5 + 1) = 109 ∧ gt l (len l - 5 + 2) = 98 ∧ gt l (len l - 5 + 3) = 111 ∧ gt l (len l - 5 + 4) = 120) := by
      rw [← pAt_B]
      constructor
      · intro q
        have q0 := q.2.2 0 (by decide) (by decide)
        rw [Int.add_zero] at q0
        exact ⟨q0, q.2.2 1 (by decide) (by decide), q.2.2 2 (by decide) (by decide), q.2.2 3 (by decide) (by decide), q.2.2 4 (by decide) (by decide)⟩
      · rintro ⟨q0, q1, q2, q3, q4⟩
        refine ⟨by omega, by show len l - 5 + 5 ≤ len l; omega, fun i i0 i1 => ?_⟩
        have i1 : i < 5 := i1
        rcases (show i = 0 ∨ i = 1 ∨ i = 2 ∨ i = 3 ∨ i = 4 by omega) with w | w | w | w | w
        · rw [w, Int.add_zero]; exact q0
        · rw [w]; exact q1
        · rw [w]; exact q2
        · rw [w]; exact q3
        · rw [w]; exact q4
    have NO : ¬ (gt l (len l - 5) = 46 ∧ gt l (len l - 5 + 1) = 109 ∧ gt l (len l - 5 + 2) = 98 ∧ gt l (len l - 5 + 3) = 111 ∧ gt l (len l - 5 + 4) = 120) → Q 0 τ := fun w => by rw [if_neg (fun y => w (hM.mp y.1))] at hQ; exact hQ
    refine ⟨fun c => NO (fun w => c (by have := w.1; omega)), fun c25 => ⟨by omega, fun r34 => ⟨fun c => NO (fun w => c (by have := w.2.1; omega)), fun c37 => ⟨by omega, fun r46 => ⟨fun c => NO (fun w => c (by have := w.2.2.1; omega)), fun c49 => ⟨by omega, fun r58 => ⟨fun c => NO (fun w => c (by have := w.2.2.2.1; omega)), fun c61 => ⟨by omega, fun r70 => ⟨fun c => NO (fun w => c (by have := w.2.2.2.2; omega)), fun c73 => ?_⟩⟩⟩⟩⟩⟩⟩⟩⟩
    rw [if_pos ⟨hM.mpr ⟨by omega, by omega, by omega, by omega, by omega⟩, c13⟩] at hQ
    exact hQ
end NAM
