/-! the twin: a field's text is looked at; atoms, nodes, what waits -/
set_option maxRecDepth 100000
/-- where a star stands: -1 none, -2 it may not -/
def stQ (fld : Int) (t : List Int) (ph : Bool) : Int := if starF t ph < 0 then -1 else if mayF fld = true ∧ manyF t ph = false then starF t ph else -2
abbrev kENC : List Int := [101, 110, 99, 114, 121, 112, 116, 101, 100]
/-- bounds of a field's text -/
def loQ (v : Ato) : Int := if v.1 = 11 ∨ v.1 = 12 then rgLo (decide (v.1 = 11)) v.2.1 else 0
def hiQ (v : Ato) : Int := if v.1 = 11 ∨ v.1 = 12 then rgHi (decide (v.1 = 11)) v.2.1 else 0
section QRT
variable {τ τ' : TT} {l t : List Int} {k e c n f a b fld : Int} {ph : Bool}
theorem mayF_c : mayF fld = true ↔ (fld ≤ 4 ∨ fld = 7 ∨ fld = 9) := by unfold mayF; exact decide_eq_true_iff
theorem t_qStar {Q : Int → TT → Prop} (h : QTX τ l) (h272 : τ.1 272 = fld) (h273 : τ.1 273 = a) (h274 : τ.1 274 = b) (h275 : τ.1 275 = b2i ph) (hab : 0 ≤ a ∧ a ≤ b ∧ b ≤ len l) (hQ : Q (stQ fld (sub l a b) ph) τ) : w_qStar τ Q := by
  have hn := h.ln
  have h2 := h.2.2
  have hls := len_sub hab
  refine s_qStar ?_
  rw [h275]
  refine fun r3 => ⟨fun c6 => ?_, fun c6 => ?_⟩
  rotate_left
  · have e : ph = true := by
      cases ph with
      | true => rfl
      | false => exact absurd rfl c6
    have e1 : stQ fld (sub l a b) ph = -1 := by
      unfold stQ starF
      rw [e, if_pos rfl, if_pos (by decide)]
    rw [e1] at hQ; exact hQ
  have ep : ph = false := by
    cases ph with
    | false => rfl
    | true => exact absurd c6 (by decide)
  have eS : starF (sub l a b) ph = idx (sub l a b) 42 0 := by unfold starF; rw [ep, if_neg (by decide)]
  have g : ∀ i, a ≤ i → i < b → gt (sub l a b) (i - a) = gt l i := fun i i0 i1 => by rw [gt_sub hab (by omega) (by omega), show a + (i - a) = i by omega]
  have hsp := idx_spec (l := sub l a b) (x := 42) (i := 0)
  have hsp2 := fun s => idx_spec (l := sub l a b) (x := 42) (i := s)
  -- none, one, more
  have FIN : ∀ n : Int, ((n = -1 ∧ ∀ i, a ≤ i → i < b → gt l i ≠ 42) ∨ (∃ j, a ≤ j ∧ j < b ∧ n = j - a ∧ gt l j = 42 ∧ ∀ i, a ≤ i → i < b → i ≠ j → gt l i ≠ 42) ∨ (n = -2 ∧ ∃ i j, a ≤ i ∧ i < j ∧ j < b ∧ gt l i = 42 ∧ gt l j = 42)) → ∀ m : Int, ((m = 1 ∧ mayF fld = true) ∨ (m = 0 ∧ ¬ mayF fld = true)) → W_qStar_88 n m τ Q := fun n hnn m hm => by
    have NONE : (∀ i, a ≤ i → i < b → gt l i ≠ 42) → stQ fld (sub l a b) ph = -1 := fun hz => by
      have e : idx (sub l a b) 42 0 = -1 := idx_n (Int.le_refl 0) (fun i i0 i1 => by
        have := hz (a + i) (by omega) (by omega)
        rw [gt_sub hab i0 (by omega)]; exact this)
      unfold stQ
      rw [eS, e, if_pos (by decide)]
    have ONE : ∀ j, a ≤ j → j < b → gt l j = 42 → (∀ i, a ≤ i → i < j → gt l i ≠ 42) → idx (sub l a b) 42 0 = j - a := fun j j0 j1 hj hz => idx_y (Int.le_refl 0) (by omega) (by omega) (by rw [g j j0 j1]; exact hj) (fun i i0 i1 => by
      rw [gt_sub hab i0 (by omega)]; exact hz (a + i) (by omega) (by omega))
    refine s_qStar_88 ⟨?_, fun c91 => ?_, fun c91 => ⟨by omega, fun c95 => ?_, fun c95 => ?_⟩⟩
    · rcases hnn with z | ⟨j, z0, z1, z2, -⟩ | z <;> omega
    · rcases hnn with z | ⟨j, z0, z1, z2, -⟩ | z
      · rw [NONE z.2] at hQ; rw [z.1]; exact hQ
      · omega
      · omega
    · have hmay : ¬ mayF fld = true := by rcases hm with w | w; omega; exact w.2
      have e : stQ fld (sub l a b) ph = -2 := by
        unfold stQ
        rw [eS]
        rcases hnn with z | ⟨j, z0, z1, z2, z3, z4⟩ | ⟨-, i, j, z0, z1, z2, z3, z4⟩
        · exact absurd z.1 c91
        · rw [ONE j z0 z1 z3 (fun i i0 i1 => z4 i i0 (by omega) (by omega)), if_neg (by omega), if_neg (fun y => hmay y.1)]
        · rcases hsp with y | y
          · exact absurd z3 (by have := y.2 (i - a) (by omega) (by omega); rw [g i z0 (by omega)] at this; exact this)
          · rw [if_neg (by omega), if_neg (fun w => hmay w.1)]
      rw [e] at hQ; exact hQ
    · have hmay : mayF fld = true := by rcases hm with w | w; exact w.2; omega
      rw [h273, h274]
      have E : stQ fld (sub l a b) ph = if manyF (sub l a b) ph = false then idx (sub l a b) 42 0 else -2 := by
        unfold stQ
        rw [eS]
        have hnn0 : ¬ idx (sub l a b) 42 0 < 0 := by
          rcases hnn with z | ⟨j, z0, z1, z2, z3, z4⟩ | ⟨-, i, j, z0, z1, z2, z3, z4⟩
          · exact absurd z.1 c91
          · rw [ONE j z0 z1 z3 (fun i i0 i1 => z4 i i0 (by omega) (by omega))]; omega
          · rcases hsp with y | y
            · exact absurd z3 (by have := y.2 (i - a) (by omega) (by omega); rw [g i z0 (by omega)] at this; exact this)
            · omega
        rw [if_neg hnn0]
        by_cases w : manyF (sub l a b) ph = false
        · rw [if_pos ⟨hmay, w⟩, if_pos w]
        · rw [if_neg (fun y => w y.2), if_neg w]
      have hmany : manyF (sub l a b) ph = decide (0 ≤ idx (sub l a b) 42 0 ∧ (0 ≤ idx (sub l a b) 42 (idx (sub l a b) 42 0 + 1) ∨ len (sub l a b) = 1)) := by unfold manyF; rw [eS]
      rw [E, hmany] at hQ
      refine fun r99 r103 => ⟨by omega, fun c108 => ?_, fun c108 => ?_⟩
      · rcases hnn with z | ⟨j, z0, z1, z2, z3, z4⟩ | ⟨zn, i, j, z0, z1, z2, z3, z4⟩
        · exact absurd z.1 c91
        · have e1 := ONE j z0 z1 z3 (fun i i0 i1 => z4 i i0 (by omega) (by omega))
          have e2 : idx (sub l a b) 42 (j - a + 1) = -1 := idx_n (by omega) (fun i i0 i1 => by
            have := z4 (a + i) (by omega) (by omega) (by omega)
            rw [gt_sub hab (by omega) (by omega)]; exact this)
          rw [e1, e2, if_pos (decide_eq_false (fun w => by omega))] at hQ
          rw [z2]; exact hQ
        · have hi : 0 ≤ idx (sub l a b) 42 0 ∧ idx (sub l a b) 42 0 ≤ i - a := by
            rcases hsp with y | y
            · exact absurd z3 (by have := y.2 (i - a) (by omega) (by omega); rw [g i z0 (by omega)] at this; exact this)
            · refine ⟨by omega, Classical.byContradiction fun w => ?_⟩
              have := y.2.2.2 (i - a) (by omega) (by omega)
              rw [g i z0 (by omega)] at this
              exact this z3
          have hj : 0 ≤ idx (sub l a b) 42 (idx (sub l a b) 42 0 + 1) := by
            rcases hsp2 (idx (sub l a b) 42 0 + 1) with y | y
            · exact absurd z4 (by have := y.2 (j - a) (by omega) (by omega); rw [g j (by omega) z2] at this; exact this)
            · omega
          rw [if_neg (fun w => by have := of_decide_eq_false w; exact this ⟨hi.1, Or.inl hj⟩)] at hQ
          rw [zn]; exact hQ
      · have h0 : 0 ≤ idx (sub l a b) 42 0 := by
          rcases hnn with z | ⟨j, z0, z1, z2, z3, z4⟩ | ⟨-, i, j, z0, z1, z2, z3, z4⟩
          · exact absurd z.1 c91
          · rw [ONE j z0 z1 z3 (fun i i0 i1 => z4 i i0 (by omega) (by omega))]; omega
          · omega
        rw [if_neg (fun w => by have := of_decide_eq_false w; exact this ⟨h0, Or.inr (by omega)⟩)] at hQ
        exact hQ
  have L : ∀ (N : Nat) (j n : Int), (b - j).toNat = N → a ≤ j → j ≤ b → ((n = -1 ∧ ∀ i, a ≤ i → i < j → gt l i ≠ 42) ∨ (∃ x, a ≤ x ∧ x < j ∧ n = x - a ∧ gt l x = 42 ∧ ∀ i, a ≤ i → i < j → i ≠ x → gt l i ≠ 42) ∨ (n = -2 ∧ ∃ i x, a ≤ i ∧ i < x ∧ x < j ∧ gt l i = 42 ∧ gt l x = 42)) → W_qStar_16 n j τ Q := by
    intro N
    induction N using Nat.strongRecOn with
    | ind N ih =>
      intro j n hN j0 j1 hnn
      have hlt : j < b → (b - (j + 1)).toNat < N := fun z => by clear hnn; omega
      have hr : -2 ≤ n ∧ n ≤ 2000 := by rcases hnn with z | ⟨x, z0, z1, z2, -⟩ | z <;> omega
      refine s_qStar_16 ?_
      rw [h274]
      refine fun r18 => ⟨by omega, fun c21 => ?_, fun c21 => t_qSee h ⟨by omega, by omega⟩ (fun r26 => ?_)⟩
      · have ej : j = b := by omega
        rw [ej] at hnn
        rw [h272]
        have MAY : mayF fld = true → W_qStar_83 n τ Q := fun z => s_qStar_83 (FIN n hnn 1 (Or.inl ⟨rfl, z⟩))
        refine fun r58 => ⟨fun c62 => MAY (mayF_c.mpr (Or.inl (by omega))), fun c62 => ⟨fun c71 => MAY (mayF_c.mpr (Or.inr (Or.inl c71))), fun c71 => ⟨fun c80 => FIN n hnn 0 (Or.inr ⟨rfl, fun z => ?_⟩), fun c80 => MAY (mayF_c.mpr (Or.inr (Or.inr c80)))⟩⟩⟩
        have := mayF_c.mp z
        omega
      · have hat : atI l j = gt l j := if_pos ⟨by omega, by omega⟩
        rw [hat]
        refine ⟨fun c31 => ih _ (hlt c21) (j + 1) n rfl (by omega) (by omega) ?_, fun c31 => ⟨by omega, fun c36 => ih _ (hlt c21) (j + 1) (-2) rfl (by omega) (by omega) ?_, fun c36 => ?_⟩⟩
        · rcases hnn with z | ⟨x, z0, z1, z2, z3, z4⟩ | ⟨zn, i, x, z0, z1, z2, z3, z4⟩
          · refine Or.inl ⟨z.1, fun i i0 i1 => ?_⟩
            by_cases q : i = j
            · rw [q]; exact c31
            · exact z.2 i i0 (by omega)
          · refine Or.inr (Or.inl ⟨x, z0, by omega, z2, z3, fun i i0 i1 hne => ?_⟩)
            by_cases q : i = j
            · rw [q]; exact c31
            · exact z4 i i0 (by omega) hne
          · exact Or.inr (Or.inr ⟨zn, i, x, z0, z1, by omega, z3, z4⟩)
        · rcases hnn with z | ⟨x, z0, z1, z2, z3, z4⟩ | ⟨zn, i, x, z0, z1, z2, z3, z4⟩
          · exact absurd z.1 c36
          · exact Or.inr (Or.inr ⟨rfl, x, j, z0, z1, by omega, z3, c31⟩)
          · exact Or.inr (Or.inr ⟨rfl, i, x, z0, z1, by omega, z3, z4⟩)
        · rw [h273]
          refine fun r41 => ih _ (hlt c21) (j + 1) (j - a) rfl (by omega) (by omega) ?_
          rcases hnn with z | ⟨x, z0, z1, z2, z3, z4⟩ | ⟨zn, i, x, z0, z1, z2, z3, z4⟩
          · exact Or.inr (Or.inl ⟨j, j0, by omega, rfl, c31, fun i i0 i1 hne => z.2 i i0 (by omega)⟩)
          · omega
          · omega
  rw [h273]
  exact fun r12 => L _ a (-1) rfl (Int.le_refl _) hab.2.1 (Or.inl ⟨rfl, fun i i0 i1 => absurd i1 (by omega)⟩)
theorem t_qIsEncrypted {Q : Int → TT → Prop} (h : QTX τ l) (h273 : τ.1 273 = a) (h274 : τ.1 274 = b) (hab : 0 ≤ a ∧ a ≤ b ∧ b ≤ len l) (hQ1 : sub l a b = kENC → Q 1 τ) (hQ0 : ¬ sub l a b = kENC → Q 0 τ) : w_qIsEncrypted τ Q := by
  have hn := h.ln
  have h2 := h.2.2
  have hls := len_sub hab
  refine s_qIsEncrypted ?_
  rw [h273, h274]
  refine fun r1 r5 => ⟨by omega, fun c11 => hQ0 (fun z => c11 (by rw [← hls, z]; rfl)), fun c11 => ?_⟩
  have e1 : sub l a b = sub l a (a + 8) ++ [gt l (b - 1)] := by
    have z := sub_snoc (l := l) (f := a) (k := a + 8) ⟨hab.1, by omega, by omega⟩
    rw [show a + 8 + 1 = b by omega] at z
    rw [z, show b - 1 = a + 8 by omega]
  have hl8 := len_sub (l := l) (i := a) (n := a + 8) ⟨hab.1, by omega, by omega⟩
  rw [e1] at hQ1 hQ0
  rw [show (7308888588583728229 : Int) = pkN [101, 110, 99, 114, 121, 112, 116, 101] by decide +kernel]
  refine t_qIsText h (by decide +kernel) ⟨hab.1, by omega, by omega⟩ rfl (fun y r31 => ⟨fun c => absurd c (by decide), fun _ => ?_⟩) (fun y r31 => ⟨fun _ => hQ0 (fun z => y ?_), fun c => absurd rfl c⟩)
  · rw [h274]
    refine fun r39 => t_qSee h ⟨by omega, by omega⟩ (fun r44 => ?_)
    rw [show atI l (b - 1) = gt l (b - 1) from if_pos ⟨by omega, by omega⟩]
    exact ⟨fun c49 => hQ0 (fun z => c49 (by rw [y] at z; injection z with z1 z2; injection z2 with z2 z3; injection z3 with z3 z4; injection z4 with z4 z5; injection z5 with z5 z6; injection z6 with z6 z7; injection z7 with z7 z8; injection z8 with z8 z9; injection z9 with z9 z10)), fun c49 => hQ1 (by rw [y, c49]; rfl)⟩
  · have z2 := congrArg (List.take 8) z
    rw [List.take_append_of_le_length (by unfold len at hl8; omega), List.take_of_length_le (by unfold len at hl8; omega)] at z2
    exact z2
theorem t_qIsRight {Q : Int → TT → Prop} (h : QTX τ l) (h272 : τ.1 272 = fld) (h273 : τ.1 273 = a) (h274 : τ.1 274 = b) (h275 : τ.1 275 = b2i ph) (hab : 0 ≤ a ∧ a ≤ b ∧ b ≤ len l) (hf : 0 ≤ fld ∧ fld ≤ 12) (hrun : ph = false → a < b ∧ ∀ i, a ≤ i → i < b → gt l i ≠ 0)
    (hQ1 : ∀ τ', Fr τ τ' [297, 298, 299, 300] [] → gdF fld (sub l a b) ph = true → τ'.1 299 = loQ (fld, sub l a b, ph) → τ'.1 300 = hiQ (fld, sub l a b, ph) → Q 1 τ') (hQ0 : ∀ τ', Fr τ τ' [297, 298, 299, 300] [] → gdF fld (sub l a b) ph = false → Q 0 τ') : w_qIsRight τ Q := by
  have F0 : Fr τ ((τ.s 299 0).s 300 0) [297, 298, 299, 300] [] := (Fr.rf.ps _ _).ps _ _
  have h' : QTX ((τ.s 299 0).s 300 0) l := h.fr rfl rfl
  have hph : (ph = false ∧ b2i ph = 0) ∨ (ph = true ∧ ¬ b2i ph = 0) := by
    rcases b2i_or ph with z | z
    · right; exact ⟨z.2, by omega⟩
    · left; exact ⟨z.2, z.1⟩
  have LO : ¬ (fld = 11 ∨ fld = 12) → loQ (fld, sub l a b, ph) = 0 ∧ hiQ (fld, sub l a b, ph) = 0 := fun z => ⟨if_neg z, if_neg z⟩
  refine s_qIsRight ?_
  rw [h272, h273, h274, h275]
  refine fun r11 => ⟨fun c15 => ⟨fun c52 => ⟨fun c141 r162 => ⟨fun c165 => ?_, fun c165 r174 r178 => ?_⟩, fun c141 => ?_⟩, fun c52 r56 => ⟨fun c59 => ?_, fun c59 r64 r68 => ?_⟩⟩, fun c15 r19 => ⟨fun c22 => ?_, fun c22 r27 r31 => ?_⟩⟩
  · have e : ph = true := by rcases hph with z | z; exact absurd z.2 c165; exact z.1
    refine hQ0 _ F0 ?_
    unfold gdF
    rw [if_neg c15, if_neg c52, if_pos (by omega), e]; rfl
  · have e : ph = false := by rcases hph with z | z; exact z.1; exact absurd c165 z.2
    have hr := hrun e
    have eG : gdF fld (sub l a b) ph = rgGd (decide (fld = 11)) (sub l a b) := by
      unfold gdF
      rw [if_neg c15, if_neg c52, if_pos (by omega), e]; rfl
    have eL : loQ (fld, sub l a b, ph) = rgLo (decide (fld = 11)) (sub l a b) := if_pos (by show fld = 11 ∨ fld = 12; omega)
    have eH : hiQ (fld, sub l a b, ph) = rgHi (decide (fld = 11)) (sub l a b) := if_pos (by show fld = 11 ∨ fld = 12; omega)
    rw [eG, eL, eH] at hQ1
    rw [eG] at hQ0
    refine t_qIsRange (od := decide (fld = 11)) h' ⟨hab.1, hr.1, hab.2.2⟩ hr.2 ?_ (fun τ1 hF1 a1 a2 a3 r181 => ⟨fun c => absurd c (by decide), fun _ => hQ1 τ1 (F0.tr hF1) a1 a2 a3⟩) (fun τ1 hF1 a1 r181 => ⟨fun _ => hQ0 τ1 (F0.tr hF1) a1, fun c => absurd rfl c⟩)
    by_cases z : fld = 11
    · exact Or.inl ⟨z, decide_eq_true z⟩
    · exact Or.inr ⟨by omega, decide_eq_false z⟩
  · have hG : gdF fld (sub l a b) ph = (decide (starF (sub l a b) ph < 0) || (mayF fld && !manyF (sub l a b) ph)) := by
      unfold gdF
      rw [if_neg c15, if_neg c52, if_neg (by omega)]
    have hz := LO (by omega)
    rw [hz.1, hz.2, hG] at hQ1
    rw [hG] at hQ0
    refine t_qStar h' h272 h273 h274 h275 hab ?_
    unfold stQ
    by_cases y : starF (sub l a b) ph < 0
    · rw [if_pos y]
      rw [decide_eq_true y, Bool.true_or] at hQ1
      exact fun r145 => ⟨fun c => absurd c (by decide), fun _ => hQ1 _ F0 rfl rfl rfl⟩
    · rw [if_neg y]
      rw [decide_eq_false y, Bool.false_or] at hQ1 hQ0
      by_cases w : mayF fld = true ∧ manyF (sub l a b) ph = false
      · rw [if_pos w]
        rw [w.1, w.2] at hQ1
        exact fun r145 => ⟨fun c => by omega, fun _ => hQ1 _ F0 rfl rfl rfl⟩
      · rw [if_neg w]
        refine fun r145 => ⟨fun _ => hQ0 _ F0 ?_, fun c => absurd rfl c⟩
        cases m1 : mayF fld with
        | false => rfl
        | true =>
          cases m2 : manyF (sub l a b) ph with
          | true => rfl
          | false => exact absurd ⟨m1, m2⟩ w
  · have e : ph = true := by rcases hph with z | z; exact absurd z.2 c59; exact z.1
    refine hQ0 _ F0 ?_
    unfold gdF
    rw [if_neg c15, if_pos c52, e]; rfl
  · have e : ph = false := by rcases hph with z | z; exact z.1; exact absurd c59 z.2
    have hG : gdF fld (sub l a b) ph = isW.contains (sub l a b) := by
      unfold gdF
      rw [if_neg c15, if_pos c52, e]; rfl
    have hz := LO (by omega)
    rw [hz.1, hz.2, hG] at hQ1
    rw [hG] at hQ0
    have IN : ∀ w, w ∈ isW → sub l a b = w → isW.contains (sub l a b) = true := fun w hw z => List.contains_iff_mem.mpr (by rw [z]; exact hw)
    rw [show (129117226099044 : Int) = pkN [117, 110, 114, 101, 97, 100] by decide +kernel, show (28829613226943844 : Int) = pkN [102, 108, 97, 103, 103, 101, 100] by decide +kernel, show (32199680874603876 : Int) = pkN [114, 101, 112, 108, 105, 101, 100] by decide +kernel]
    refine t_qIsText h' (by decide +kernel) hab rfl (fun y r76 => ⟨fun _ => hQ1 _ F0 (IN _ (by decide) y) rfl rfl, fun c => absurd c (by decide)⟩) (fun y1 r76 => ⟨fun c => absurd rfl c, fun _ => ?_⟩)
    have e3 : ((τ.s 299 0).s 300 0).1 273 = a := h273
    have e4 : ((τ.s 299 0).s 300 0).1 274 = b := h274
    rw [e3, e4]
    refine fun r84 r88 => t_qIsText h' (by decide +kernel) hab rfl (fun y r96 => ⟨fun _ => hQ1 _ F0 (IN _ (by decide) y) rfl rfl, fun c => absurd c (by decide)⟩) (fun y2 r96 => ⟨fun c => absurd rfl c, fun _ => ?_⟩)
    rw [e3, e4]
    refine fun r104 r108 => t_qIsText h' (by decide +kernel) hab rfl (fun y r116 => ⟨fun _ => hQ1 _ F0 (IN _ (by decide) y) rfl rfl, fun c => absurd c (by decide)⟩) (fun y3 r116 => ⟨fun c => absurd rfl c, fun _ => ?_⟩)
    refine t_qIsEncrypted h' e3 e4 hab (fun y r123 => ⟨fun c => absurd c (by decide), fun _ => hQ1 _ F0 (IN _ (by decide) y) rfl rfl⟩) (fun y4 r123 => ⟨fun _ => hQ0 _ F0 ?_, fun c => absurd rfl c⟩)
    refine Bool.eq_false_iff.mpr (fun z => ?_)
    have z2 := List.contains_iff_mem.mp z
    rcases List.mem_cons.mp z2 with w | z2
    · exact y1 w
    rcases List.mem_cons.mp z2 with w | z2
    · exact y2 w
    rcases List.mem_cons.mp z2 with w | z2
    · exact y3 w
    rcases List.mem_cons.mp z2 with w | z2
    · exact y4 w
    cases z2
  · have e : ph = true := by rcases hph with z | z; exact absurd z.2 c22; exact z.1
    refine hQ0 _ F0 ?_
    unfold gdF
    rw [if_pos c15, e]; rfl
  · have e : ph = false := by rcases hph with z | z; exact z.1; exact absurd c22 z.2
    have hG : gdF fld (sub l a b) ph = tgF (sub l a b) := by
      unfold gdF
      rw [if_pos c15, e]; rfl
    have hz := LO (by omega)
    rw [hz.1, hz.2, hG] at hQ1
    rw [hG] at hQ0
    exact t_qIsTag h' hab (fun y r34 => ⟨fun c => absurd c (by decide), fun _ => hQ1 _ F0 y rfl rfl⟩) (fun y r34 => ⟨fun _ => hQ0 _ F0 (Bool.eq_false_iff.mpr y), fun c => absurd rfl c⟩)
end QRT
