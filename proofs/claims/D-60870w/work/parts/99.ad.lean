/-! the twin: days and ranges of a query -/
set_option maxRecDepth 100000
section QDY
variable {τ τ' : TT} {l t : List Int} {k e c n f y m a b : Int} {od : Bool}
theorem nm_s (h : 0 ≤ a ∧ a ≤ b ∧ b < len l) : nmU 0 (sub l a (b + 1)) = 10 * nmU 0 (sub l a b) + gt l b - 48 := by
  rw [sub_snoc h, nmU_app]
  rfl
theorem nm_0 (h : 0 ≤ a ∧ a ≤ len l) : nmU 0 (sub l a a) = 0 := by
  have e0 : sub l a a = [] := List.eq_nil_of_length_eq_zero (by
    have h1 : ((sub l a a).length : Int) = a - a := len_sub (l := l) (i := a) (n := a) ⟨h.1, Int.le_refl _, h.2⟩
    omega)
  rw [e0]; rfl
theorem td_1 {V Y R : Int} (hR : 0 ≤ R ∧ R < 10000) (hY : 0 ≤ Y) (h : V = Y * 10000 + R) : Int.tdiv V 10000 = Y := by
  rw [Int.tdiv_eq_ediv_of_nonneg (by omega)]; omega
theorem td_2 {V Z D : Int} (hD : 0 ≤ D ∧ D < 100) (hZ : 0 ≤ Z) (h : V = Z * 100 + D) : Int.tdiv V 100 = Z ∧ Int.tmod V 100 = D := by
  rw [Int.tdiv_eq_ediv_of_nonneg (by omega), Int.tmod_eq_emod_of_nonneg (by omega)]
  omega
theorem td_3 {Z Y M : Int} (hM : 0 ≤ M ∧ M < 100) (hY : 0 ≤ Y) (h : Z = Y * 100 + M) : Int.tmod Z 100 = M := by
  rw [Int.tmod_eq_emod_of_nonneg (by omega)]
  omega
theorem yrS_s {n : Nat} {k : Int} : yrS (n + 1) k = (if leapP k then 366 else 365) + yrS n (k + 1) := rfl
theorem mdS_s {n : Nat} {y k : Int} : mdS y (n + 1) k = mdF y k + mdS y n (k + 1) := rfl
theorem t_qIsDay {Q : Int → TT → Prop} (h : QTX τ l) (hk : 0 ≤ k ∧ k < e ∧ e ≤ len l)
    (hQ1 : ∀ τ', Fr τ τ' [297] [] → rgDays (sub l k e) ≠ MNL → τ'.1 297 = rgI (rgDays (sub l k e)) → Q 1 τ') (hQ0 : rgDays (sub l k e) = MNL → Q 0 τ) : w_qIsDay k e τ Q := by
  have hn := h.ln
  have h2 := h.2.2
  have hk2 : 0 ≤ k ∧ k ≤ e ∧ e ≤ len l := ⟨hk.1, by omega, hk.2.2⟩
  have hd := dgN_p hk2
  have hla := lasC_q hk
  have hls := len_sub hk2
  -- days back
  have BK : ¬ (dgN l k e = 8 ∧ e - k = 8) → W_qIsDay_185 k e (dgN l k e) τ Q := fun hno => by
    have eD : rgDays (sub l k e) = rgBack (sub l k e) := by
      unfold rgDays
      have z : (if len (sub l k e) = 8 then rgNum (sub l k e) 0 8 else -1) < 0 := by
        by_cases c : len (sub l k e) = 8
        · rw [if_pos c]
          rw [rgNum_q hk2 (Int.le_refl 0) (by omega) (by omega), if_neg (by omega)]
          decide
        · rw [if_neg c]; decide
      rw [if_pos z]
    rw [eD] at hQ1 hQ0
    have hDy : rgDay (sub l k e) = if gt l (e - 1) = 100 then 1 else if gt l (e - 1) = 119 then 7 else if gt l (e - 1) = 109 then 30 else if gt l (e - 1) = 121 then 365 else 0 := by unfold rgDay; rw [hla]
    have NO : (rgNum (sub l k e) 1 3 < 1 ∨ rgDay (sub l k e) = 0) → Q 0 τ := fun z => hQ0 (by
      unfold rgBack
      rw [if_pos z])
    have dig : dgN l k e = e - k → rgDay (sub l k e) = 0 := fun z => by
      have w := hd.2.2.1 (e - 1 - k) (by omega) (by omega)
      rw [show k + (e - 1 - k) = e - 1 by omega] at w
      have w2 : 48 ≤ gt l (e - 1) ∧ gt l (e - 1) ≤ 57 := w
      rw [hDy, if_neg (by omega), if_neg (by omega), if_neg (by omega), if_neg (by omega)]
    have W243 : ∀ un : Int, (dgN l k e = e - 1 - k → un = rgDay (sub l k e)) → (un = 0 ∨ un = 1 ∨ un = 7 ∨ un = 30 ∨ un = 365) → W_qIsDay_243 k e (dgN l k e) un τ Q := fun un hun hu5 => by
      refine s_qIsDay_243 ⟨by omega, fun c247 => NO (Or.inl ?_), fun c247 => ⟨fun c252 => NO ?_, fun c252 => ⟨by omega, by omega, fun c261 => NO ?_, fun c261 => ⟨by omega, fun c266 => NO (Or.inr (by rw [← hun (by omega)]; exact c266)), fun c266 => ?_⟩⟩⟩⟩
      · by_cases w : e - 1 - k < 1 ∨ 3 < e - 1 - k
        · rw [rgNum_o hk2 w]; decide
        · rw [rgNum_q hk2 (by decide) (by omega) (by omega), if_neg (by omega)]; decide
      · by_cases w : 3 < e - 1 - k
        · exact Or.inl (by rw [rgNum_o hk2 (Or.inr w)]; decide)
        · exact Or.inr (dig (by omega))
      · by_cases w : dgN l k e = e - k
        · exact Or.inr (dig w)
        · left
          by_cases w2 : e - 1 - k < 1 ∨ 3 < e - 1 - k
          · rw [rgNum_o hk2 w2]; decide
          · rw [rgNum_q hk2 (by decide) (by omega) (by omega), if_neg (by omega)]; decide
      · have hnum := rgNum_q (but := 1) (most := 3) hk2 (by decide) (by omega) (by omega)
        rw [if_pos (by omega), show e - 1 = k + dgN l k e by omega] at hnum
        have hl8 := len_sub (l := l) (i := k) (n := k + dgN l k e) ⟨hk.1, by omega, by omega⟩
        have hv := nmU_bd (dg_sub (l := l) (k := k) (n := dgN l k e) ⟨hk.1, hd.1, by omega⟩ hd.2.2.1) (by unfold len at hl8; omega)
        have hv3 : nmU 0 (sub l k (k + dgN l k e)) < 1000 := by
          have z := nmU_in (sub l k (k + dgN l k e)) 0 (dg_sub (l := l) (k := k) (n := dgN l k e) ⟨hk.1, hd.1, by omega⟩ hd.2.2.1) (Int.le_refl 0)
          have cc : ∀ n : Nat, n < 4 → (0 + 1 : Int) * 10 ^ n ≤ 1000 := by decide
          have d4 := cc (sub l k (k + dgN l k e)).length (by unfold len at hl8; omega)
          omega
        have hu := hun (by omega)
        refine t_qNumber h ⟨hk.1, hd.1, by omega, by omega⟩ hd.2.2.1 (fun r272 => ⟨fun c275 => t_qNumber h ⟨hk.1, hd.1, by omega, by omega⟩ hd.2.2.1 (fun r287 => ?_), fun c275 => NO (Or.inl ?_)⟩)
        · generalize nmU 0 (sub l k (k + dgN l k e)) = v at *
          have eB : rgBack (sub l k e) = -v * un := by
            unfold rgBack
            rw [hnum, ← hu, if_neg (by omega)]
          have hm : -un * v = -v * un := by rw [Int.neg_mul, Int.neg_mul, Int.mul_comm]
          rw [hm]
          have hr : -400000 ≤ -v * un ∧ -v * un ≤ 0 := by rcases hu5 with z | z | z | z | z <;> rw [z] <;> omega
          refine ⟨by omega, hQ1 _ (Fr.rf.ps _ _) (by rw [eB]; show -v * un ≠ -9223372036854775808; omega) ?_⟩
          rw [eB, rgI_s ⟨by omega, by omega⟩]
          rfl
        · rw [hnum, c275]; decide
    refine s_qIsDay_185 (t_qSee h ⟨by omega, by omega⟩ (fun r189 => ?_))
    have hat : dgN l k e = e - 1 - k → atI l (k + dgN l k e) = gt l (e - 1) := fun z => by
      rw [show k + dgN l k e = e - 1 by omega]
      exact if_pos ⟨by omega, by omega⟩
    refine ⟨fun c198 => ⟨fun c209 => ⟨fun c221 => ⟨fun c233 => W243 0 (fun z => ?_) (Or.inl rfl), fun c233 => W243 365 (fun z => ?_) (by omega)⟩, fun c221 => W243 30 (fun z => ?_) (by omega)⟩, fun c209 => W243 7 (fun z => ?_) (by omega)⟩, fun c198 => W243 1 (fun z => ?_) (by omega)⟩
    · rw [hat z] at c198 c209 c221 c233
      rw [hDy, if_neg c198, if_neg c209, if_neg c221, if_neg c233]
    · rw [hat z] at c198 c209 c221 c233
      rw [hDy, if_neg c198, if_neg c209, if_neg c221, if_pos c233]
    · rw [hat z] at c198 c209 c221
      rw [hDy, if_neg c198, if_neg c209, if_pos c221]
    · rw [hat z] at c198 c209
      rw [hDy, if_neg c198, if_pos c209]
    · rw [hat z] at c198
      rw [hDy, if_pos c198]
  refine s_qIsDay (t_qDigits h hk2 (fun r3 => ⟨fun c10 => BK (fun z => c10 z.1), fun c10 => ⟨by omega, fun c18 => BK (fun z => c18 z.2), fun c18 => ?_⟩⟩))
  -- a day
  have hdg : ∀ i, 0 ≤ i → i < 8 → chDg (gt l (k + i)) := fun i i0 i1 => hd.2.2.1 i i0 (by omega)
  have hd4 : ∀ i, 0 ≤ i → i < 2 → chDg (gt l (k + 4 + i)) := fun i i0 i1 => by rw [Int.add_assoc]; exact hdg (4 + i) (by omega) (by omega)
  have hd6 : ∀ i, 0 ≤ i → i < 2 → chDg (gt l (k + 6 + i)) := fun i i0 i1 => by rw [Int.add_assoc]; exact hdg (6 + i) (by omega) (by omega)
  have eV : rgDays (sub l k e) = rgYmd (nmU 0 (sub l k e)) := by
    have hq := rgNum_q (but := 0) (most := 8) hk2 (Int.le_refl 0) (by omega) (by omega)
    rw [if_pos (by omega), Int.sub_zero] at hq
    have hv := nmU_bd (dg_sub (l := l) (k := k) (n := e - k) ⟨hk.1, by omega, by omega⟩ (fun i i0 i1 => hd.2.2.1 i i0 (by omega))) (by rw [show k + (e - k) = e by omega]; unfold len at hls; omega)
    rw [show k + (e - k) = e by omega] at hv
    unfold rgDays
    rw [if_pos (show len (sub l k e) = 8 by omega), hq, if_neg (by omega)]
  have hY := nmU_bd (dg_sub (l := l) (k := k) (n := 4) ⟨hk.1, by decide, by omega⟩ (fun i i0 i1 => hdg i i0 (by omega))) (by have h8 := len_sub (l := l) (i := k) (n := k + 4) ⟨hk.1, by omega, by omega⟩; unfold len at h8; omega)
  have g4 := hdg 4 (by decide) (by decide)
  have g5 := hdg 5 (by decide) (by decide)
  have g6 := hdg 6 (by decide) (by decide)
  have g7 := hdg 7 (by decide) (by decide)
  have b4 : 48 ≤ gt l (k + 4) ∧ gt l (k + 4) ≤ 57 := g4
  have b5 : 48 ≤ gt l (k + 5) ∧ gt l (k + 5) ≤ 57 := g5
  have b6 : 48 ≤ gt l (k + 6) ∧ gt l (k + 6) ≤ 57 := g6
  have b7 : 48 ≤ gt l (k + 7) ∧ gt l (k + 7) ≤ 57 := g7
  have s5 := nm_s (l := l) (a := k) (b := k + 4) ⟨hk.1, by omega, by omega⟩
  have s6 := nm_s (l := l) (a := k) (b := k + 4 + 1) ⟨hk.1, by omega, by omega⟩
  have s7 := nm_s (l := l) (a := k) (b := k + 4 + 1 + 1) ⟨hk.1, by omega, by omega⟩
  have s8 := nm_s (l := l) (a := k) (b := k + 4 + 1 + 1 + 1) ⟨hk.1, by omega, by omega⟩
  have m0 := nm_0 (l := l) (a := k + 4) ⟨by omega, by omega⟩
  have m1 := nm_s (l := l) (a := k + 4) (b := k + 4) ⟨by omega, Int.le_refl _, by omega⟩
  have m2 := nm_s (l := l) (a := k + 4) (b := k + 4 + 1) ⟨by omega, by omega, by omega⟩
  have d0 := nm_0 (l := l) (a := k + 6) ⟨by omega, by omega⟩
  have d1 := nm_s (l := l) (a := k + 6) (b := k + 6) ⟨by omega, Int.le_refl _, by omega⟩
  have d2 := nm_s (l := l) (a := k + 6) (b := k + 6 + 1) ⟨by omega, by omega, by omega⟩
  rw [show k + 4 + 1 + 1 + 1 + 1 = e by omega, show k + 4 + 1 + 1 + 1 = k + 7 by omega] at s8
  rw [show k + 4 + 1 + 1 + 1 = k + 7 by omega, show k + 4 + 1 + 1 = k + 6 by omega] at s7
  rw [show k + 4 + 1 + 1 = k + 6 by omega, show k + 4 + 1 = k + 5 by omega] at s6 m2
  rw [show k + 4 + 1 = k + 5 by omega] at s5 m1
  rw [show k + 6 + 1 + 1 = k + 8 by omega, show k + 6 + 1 = k + 7 by omega] at d2
  rw [show k + 6 + 1 = k + 7 by omega] at d1
  refine t_qNumber h ⟨hk.1, by decide, by omega, by decide⟩ (fun i i0 i1 => hdg i i0 (by omega)) (fun r24 => t_qNumber h ⟨by omega, by decide, by omega, by decide⟩ hd4 (fun r34 => t_qNumber h ⟨by omega, by decide, by omega, by decide⟩ hd6 (fun r45 => ?_)))
  rw [show k + 4 + 2 = k + 6 by omega, show k + 6 + 2 = k + 8 by omega]
  rw [eV] at hQ1 hQ0
  generalize nmU 0 (sub l k e) = VV at *
  generalize nmU 0 (sub l k (k + 4)) = Y at *
  have hM : nmU 0 (sub l (k + 4) (k + 6)) = 10 * (gt l (k + 4) - 48) + (gt l (k + 5) - 48) := by omega
  have hD : nmU 0 (sub l (k + 6) (k + 8)) = 10 * (gt l (k + 6) - 48) + (gt l (k + 7) - 48) := by omega
  generalize nmU 0 (sub l (k + 4) (k + 6)) = M at *
  generalize nmU 0 (sub l (k + 6) (k + 8)) = D at *
  have hVV : VV = (Y * 100 + M) * 100 + D := by omega
  have t1 := td_1 (V := VV) (Y := Y) (R := M * 100 + D) (by omega) hY.1 (by omega)
  have t2 := td_2 (V := VV) (Z := Y * 100 + M) (D := D) (by omega) (by omega) hVV
  have t3 := td_3 (Z := Y * 100 + M) (Y := Y) (M := M) (by omega) hY.1 rfl
  have eR : rgYmd VV = if Y < 1970 ∨ 2999 < Y ∨ M < 1 ∨ 12 < M ∨ D < 1 ∨ mdF Y M < D then MNL else D - 1 + mdS Y (M - 1).toNat 1 + yrS (Y - 1970).toNat 1970 := by
    unfold rgYmd
    rw [t1, t2.1, t2.2, t3]
  rw [eR] at hQ1 hQ0
  have NO : (Y < 1970 ∨ 2999 < Y ∨ M < 1 ∨ 12 < M ∨ D < 1 ∨ mdF Y M < D) → Q 0 τ := fun z => hQ0 (if_pos z)
  refine ⟨fun c => NO (Or.inl c), fun c55 => ⟨fun c => NO (Or.inr (Or.inl c)), fun c63 => ⟨fun c => NO (Or.inr (Or.inr (Or.inl c))), fun c69 => ⟨fun c => NO (Or.inr (Or.inr (Or.inr (Or.inl c)))), fun c76 => ⟨fun c => NO (Or.inr (Or.inr (Or.inr (Or.inr (Or.inl c))))), fun c82 => t_qMonthDays (by omega) (by omega) (fun r91 => ⟨fun c94 => ⟨by omega, ?_⟩, fun c94 => NO (Or.inr (Or.inr (Or.inr (Or.inr (Or.inr c94)))))⟩)⟩⟩⟩⟩⟩
  rw [if_neg (by omega)] at hQ1
  have hms := mdS_in (y := Y) (M - 1).toNat 1
  have hys := yrS_in (Y - 1970).toNat 1970
  generalize hA : D - 1 + mdS Y (M - 1).toNat 1 + yrS (Y - 1970).toNat 1970 = A at hQ1
  have LM : ∀ (N : Nat) (i : Int) (τ1 : TT), (M - i).toNat = N → 1 ≤ i → i ≤ M → Fr τ τ1 [297] [] → τ1.1 297 + mdS Y (M - i).toNat i = A → 0 ≤ τ1.1 297 → W_qIsDay_154 Y M i τ1 Q := by
    intro N
    induction N using Nat.strongRecOn with
    | ind N ih =>
      intro i τ1 hN i0 i1 hF hs h0
      have hmi := mdS_in (y := Y) (M - i).toNat i
      refine s_qIsDay_154 ⟨by omega, by omega, fun c158 => hQ1 τ1 hF (by show A ≠ -9223372036854775808; omega) ?_, fun c158 r163 => ?_⟩
      · have ei : (M - i).toNat = 0 := by omega
        rw [ei] at hs
        have hs : τ1.1 297 + 0 = A := hs
        rw [rgI_s ⟨by omega, by omega⟩]
        omega
      · have hmd := mdF_in (y := Y) (m := i)
        have hm2 := mdS_in (y := Y) (M - (i + 1)).toNat (i + 1)
        rw [show (M - i).toNat = (M - (i + 1)).toNat + 1 by omega, mdS_s] at hs
        refine t_qMonthDays (by omega) (by omega) (fun r170 => ⟨by omega, ih _ (by omega) (i + 1) _ rfl (by omega) (by omega) (hF.ps _ _) ?_ ?_⟩)
        · show τ1.1 297 + mdF Y i + _ = A; omega
        · show 0 ≤ τ1.1 297 + mdF Y i; omega
  have LY : ∀ (N : Nat) (i : Int) (τ1 : TT), (Y - i).toNat = N → 1970 ≤ i → i ≤ Y → Fr τ τ1 [297] [] → τ1.1 297 + yrS (Y - i).toNat i + mdS Y (M - 1).toNat 1 = A → 0 ≤ τ1.1 297 → W_qIsDay_112 Y M i τ1 Q := by
    intro N
    induction N using Nat.strongRecOn with
    | ind N ih =>
      intro i τ1 hN i0 i1 hF hs h0
      have hyi := yrS_in (Y - i).toNat i
      refine s_qIsDay_112 ⟨by omega, by omega, fun c116 => ?_, fun c116 r121 => ?_⟩
      · have ei : (Y - i).toNat = 0 := by omega
        rw [ei] at hs
        have hs : τ1.1 297 + 0 + mdS Y (M - 1).toNat 1 = A := hs
        exact LM _ 1 τ1 rfl (Int.le_refl _) c69 hF (by omega) h0
      · have hy2 := yrS_in (Y - (i + 1)).toNat (i + 1)
        rw [show (Y - i).toNat = (Y - (i + 1)).toNat + 1 by omega, yrS_s] at hs
        refine t_qIsLeap (by omega) (fun hlp r126 => ⟨fun c => absurd c (by decide), fun _ => ?_⟩) (fun hlp r126 => ⟨fun _ => ?_, fun c => absurd rfl c⟩)
        · rw [if_pos hlp] at hs
          refine s_qIsDay_141 ⟨by omega, ih _ (by omega) (i + 1) _ rfl (by omega) (by omega) (hF.ps _ _) ?_ ?_⟩
          · show τ1.1 297 + 366 + _ + _ = A; omega
          · show 0 ≤ τ1.1 297 + 366; omega
        · rw [if_neg hlp] at hs
          refine s_qIsDay_141 ⟨by omega, ih _ (by omega) (i + 1) _ rfl (by omega) (by omega) (hF.ps _ _) ?_ ?_⟩
          · show τ1.1 297 + 365 + _ + _ = A; omega
          · show 0 ≤ τ1.1 297 + 365; omega
  refine LY _ 1970 _ rfl (Int.le_refl _) c55 (Fr.rf.ps _ _) ?_ ?_
  · show D - 1 + _ + _ = A; omega
  · show 0 ≤ D - 1; omega
end QDY
section QRN
variable {τ τ' : TT} {l t : List Int} {k e c n f y m a b : Int} {od : Bool}
theorem t_qIsBound {Q : Int → TT → Prop} (h : QTX τ l) (hk : 0 ≤ k ∧ k < e ∧ e ≤ len l) (hp : ∀ i, k ≤ i → i < e → gt l i ≠ 0) (hf : (f = 11 ∧ od = true) ∨ (f = 12 ∧ od = false))
    (hQ1 : ∀ τ', Fr τ τ' [297, 298] [] → rgV od (sub l k e) ≠ MNL → τ'.1 297 = rgI (rgV od (sub l k e)) → Q 1 τ') (hQ0 : rgV od (sub l k e) = MNL → Q 0 τ) : w_qIsBound f k e τ Q := by
  rcases hf with ⟨f1, f2⟩ | ⟨f1, f2⟩
  · have eV : rgV od (sub l k e) = rgDays (sub l k e) := by rw [f2]; rfl
    rw [eV] at hQ1 hQ0
    exact s_qIsBound ⟨by omega, fun c => absurd f1 c, fun _ => t_qIsDay h hk (fun τ1 hF1 a1 a2 r => hQ1 τ1 (Fr.rf.tr hF1) a1 a2) (fun a1 r => hQ0 a1)⟩
  · have eV : rgV od (sub l k e) = rgBy (sub l k e) := by rw [f2]; rfl
    rw [eV] at hQ1 hQ0
    exact s_qIsBound ⟨by omega, fun _ => t_qIsBytes h hk hp (fun τ1 hF1 a1 a2 r => hQ1 τ1 hF1 a1 a2) (fun a1 r => hQ0 a1), fun c => absurd c (by omega)⟩
theorem pxF_s (h : 0 ≤ a ∧ a < len t) : pxF t [46, 46] a = if pAtB t [46, 46] a = true then a else pxF t [46, 46] (a + 1) := by rw [pxF, dif_pos h]
theorem pxF_e (h : len t ≤ a) : pxF t [46, 46] a = -1 := by rw [pxF, dif_neg (fun z => by omega)]
theorem t_qIsRange {Q : Int → TT → Prop} (h : QTX τ l) (hk : 0 ≤ k ∧ k < e ∧ e ≤ len l) (hp : ∀ i, k ≤ i → i < e → gt l i ≠ 0) (hf : (f = 11 ∧ od = true) ∨ (f = 12 ∧ od = false))
    (hQ1 : ∀ τ', Fr τ τ' [297, 298, 299, 300] [] → rgGd od (sub l k e) = true → τ'.1 299 = rgLo od (sub l k e) → τ'.1 300 = rgHi od (sub l k e) → Q 1 τ') (hQ0 : ∀ τ', Fr τ τ' [297, 298, 299, 300] [] → rgGd od (sub l k e) = false → Q 0 τ') : w_qIsRange f k e τ Q := by
  have hn := h.ln
  have h2 := h.2.2
  have hk2 : 0 ≤ k ∧ k ≤ e ∧ e ≤ len l := ⟨hk.1, by omega, hk.2.2⟩
  have hls := len_sub hk2
  have eLo : rgLo od (sub l k e) = if rgDot (sub l k e) < 0 then rgI (rgV od (sub l k e)) else if 0 < rgDot (sub l k e) then rgI (rgV od (sub (sub l k e) 0 (rgDot (sub l k e)))) else -2147483648 := rfl
  have eHi : rgHi od (sub l k e) = if rgDot (sub l k e) < 0 then rgI (rgV od (sub l k e)) else if rgDot (sub l k e) + 2 < len (sub l k e) then rgI (rgV od (sub (sub l k e) (rgDot (sub l k e) + 2) (len (sub l k e)))) else 2147483647 := rfl
  have eGd : rgGd od (sub l k e) = if rgDot (sub l k e) < 0 then decide (rgV od (sub l k e) ≠ MNL) else (decide (len (sub l k e) ≠ 2) && (if 0 < rgDot (sub l k e) then decide (rgV od (sub (sub l k e) 0 (rgDot (sub l k e))) ≠ MNL) else true)) && (if rgDot (sub l k e) + 2 < len (sub l k e) then decide (rgV od (sub (sub l k e) (rgDot (sub l k e) + 2) (len (sub l k e))) ≠ MNL) else true) := rfl
  have rI : ∀ {v : Int}, -2147483648 ≤ rgI v ∧ rgI v < 2147483648 := fun {v} => wI_in _
  -- no dots
  have NODOT : rgDot (sub l k e) < 0 → ∀ j, e ≤ j + 1 → j ≤ e → W_qIsRange_41 f k e j τ Q := fun hd j j0 j1 => by
    rw [eLo, eHi, eGd, if_pos hd, if_pos hd, if_pos hd] at hQ1
    rw [eGd, if_pos hd] at hQ0
    refine s_qIsRange_41 ⟨by omega, by omega, fun c46 => absurd c46 (by omega), fun c46 => t_qIsBound h hk hp hf (fun τ1 hF1 a1 a2 r53 => ?_) (fun a1 r53 r60 => hQ0 _ ((Fr.rf.ps _ _).ps _ _) (decide_eq_false (fun z => z a1)))⟩
    rw [a2]
    exact fun r60 => hQ1 _ (((show Fr τ τ1 [297, 298, 299, 300] [] from Fr.rf.tr hF1).ps _ _).ps _ _) (decide_eq_true a1) rfl rfl
  -- dots
  have DOT : ∀ j, k ≤ j → j + 1 < e → rgDot (sub l k e) = j - k → W_qIsRange_41 f k e j τ Q := fun j j0 j1 hd => by
    have nd : ¬ rgDot (sub l k e) < 0 := by omega
    rw [eLo, eHi, eGd, if_neg nd, if_neg nd, if_neg nd] at hQ1
    rw [eGd, if_neg nd] at hQ0
    have s1 : sub (sub l k e) 0 (j - k) = sub l k j := by rw [sub_sub0 hk2 ⟨Int.le_refl 0, by omega, by omega⟩, Int.add_zero, show k + (j - k) = j by omega]
    have s2 : sub (sub l k e) (j - k + 2) (len (sub l k e)) = sub l (j + 2) e := by rw [hls, sub_sub0 hk2 ⟨by omega, by omega, by omega⟩, show k + (j - k + 2) = j + 2 by omega, show k + (e - k) = e by omega]
    rw [hd, s1, s2, hls] at hQ1 hQ0
    have F0 : Fr τ ((τ.s 299 (-2147483648)).s 300 2147483647) [297, 298, 299, 300] [] := (Fr.rf.ps _ _).ps _ _
    have h' : ∀ τ1, Fr τ τ1 [297, 298, 299, 300] [] → QTX τ1 l := fun τ1 hF => h.fr (hF.s 263) (hF.a 178)
    refine s_qIsRange_41 ⟨by omega, by omega, fun c46 => ⟨by omega, fun c95 => ?_, fun c95 => hQ0 _ F0 (by rw [decide_eq_false (by omega)]; rfl)⟩, fun c46 => absurd c46 (by omega)⟩
    rw [decide_eq_true c95, Bool.true_and] at hQ1 hQ0
    have E127 : ∀ (τ1 : TT), Fr τ τ1 [297, 298, 299, 300] [] → τ1.1 299 = (if 0 < j - k then rgI (rgV od (sub l k j)) else -2147483648) → τ1.1 300 = 2147483647 → (if 0 < j - k then decide (rgV od (sub l k j) ≠ MNL) else true) = true → W_qIsRange_127 f e j τ1 Q := fun τ1 hF1 e1 e2 e3 => by
      rw [e3, Bool.true_and] at hQ1 hQ0
      refine s_qIsRange_127 ⟨by omega, by omega, fun c132 => ?_, fun c132 => ?_⟩
      · refine hQ1 τ1 hF1 (if_neg (by omega)) e1 ?_
        rw [if_neg (by omega)]; exact e2
      · have hlt : j - k + 2 < e - k := by omega
        rw [if_pos hlt, if_pos hlt] at hQ1
        rw [if_pos hlt] at hQ0
        refine t_qIsBound (h' τ1 hF1) ⟨by omega, c132, hk.2.2⟩ (fun i i0 i1 => hp i (by omega) i1) hf (fun τ2 hF2 a1 a2 r142 => ⟨fun _ => ?_, fun c => absurd c (by decide)⟩) (fun a1 r142 => ⟨fun c => absurd rfl c, fun _ => hQ0 τ1 hF1 (decide_eq_false (fun z => z a1))⟩)
        rw [a2]
        refine fun r152 => hQ1 _ ((hF1.tr hF2).ps _ _) (decide_eq_true a1) ?_ rfl
        show τ2.1 299 = _
        rw [hF2.s 299]; exact e1
    refine ⟨by omega, by omega, fun c103 => E127 _ F0 (by rw [if_neg (by omega)]; rfl) rfl (if_neg (by omega)), fun c103 => ?_⟩
    refine t_qIsBound (h' _ F0) ⟨hk.1, c103, by omega⟩ (fun i i0 i1 => hp i i0 (by omega)) hf (fun τ2 hF2 a1 a2 r111 => ⟨fun _ => ?_, fun c => absurd c (by decide)⟩) (fun a1 r111 => ⟨fun c => absurd rfl c, fun _ => hQ0 _ F0 ?_⟩)
    · rw [a2]
      refine fun r121 => E127 _ ((F0.tr hF2).ps _ _) ?_ ?_ ?_
      · rw [if_pos (by omega)]; rfl
      · show τ2.1 300 = _
        rw [hF2.s 300]; rfl
      · rw [if_pos (by omega)]; exact decide_eq_true a1
    · rw [if_pos (by omega), decide_eq_false (fun z => z a1)]; rfl
  -- the search
  have L : ∀ (N : Nat) (j : Int), (e - j).toNat = N → k ≤ j → j ≤ e → rgDot (sub l k e) = pxF (sub l k e) [46, 46] (j - k) → W_qIsRange_3 f k e j τ Q := by
    intro N
    induction N using Nat.strongRecOn with
    | ind N ih =>
      intro j hN j0 j1 hj
      refine s_qIsRange_3 ⟨by omega, by omega, fun c8 => NODOT ?_ j (by omega) j1, fun c8 => ?_⟩
      · rw [hj]
        by_cases z : j = e
        · rw [pxF_e (by omega)]; decide
        · rw [pxF_s ⟨by omega, by omega⟩, if_neg (fun y => by have w := (pAt_B.mpr y).2.1; have w2 : j - k + 2 ≤ len (sub l k e) := w; omega), pxF_e (by omega)]
          decide
      · have g1 : gt (sub l k e) (j - k) = gt l j := by rw [gt_sub hk2 (by omega) (by omega), show k + (j - k) = j by omega]
        have g2 : gt (sub l k e) (j - k + 1) = gt l (j + 1) := by rw [gt_sub hk2 (by omega) (by omega), show k + (j - k + 1) = j + 1 by omega]
        have a1 : atI l j = gt l j := if_pos ⟨by omega, by omega⟩
        have a2 : atI l (j + 1) = gt l (j + 1) := if_pos ⟨by omega, by omega⟩
        have hpt := pAt_2 (u := sub l k e) (k := j - k) (x := 46) (y := 46) ⟨by omega, by omega⟩
        rw [g1, g2] at hpt
        have hs := pxF_s (t := sub l k e) (a := j - k) ⟨by omega, by omega⟩
        rw [hs] at hj
        have NX : ¬ (gt l j = 46 ∧ gt l (j + 1) = 46) → W_qIsRange_3 f k e (j + 1) τ Q := fun z => by
          rw [if_neg (fun y => z (hpt.mp y)), show j - k + 1 = j + 1 - k by omega] at hj
          exact ih _ (by omega) (j + 1) rfl (by omega) (by omega) hj
        refine t_qSee h ⟨by omega, by omega⟩ (fun r14 => ?_)
        rw [a1]
        refine ⟨fun c19 => NX (fun z => c19 z.1), fun c19 => t_qSee h ⟨by omega, by omega⟩ (fun r27 => ?_)⟩
        rw [a2]
        refine ⟨fun c32 => DOT j j0 c8 ?_, fun c32 => NX (fun z => c32 z.2)⟩
        rw [hj, if_pos (hpt.mpr ⟨c19, c32⟩)]
  refine s_qIsRange (L _ k rfl (Int.le_refl _) (by omega) ?_)
  rw [show k - k = 0 by omega]
  rfl
end QRN
