/-! the twin: what waits is done; an atom is read -/
set_option maxRecDepth 100000
/-- values that become one when all that waits is done -/
def RA : List Int → List Den → Den → Prop
  | [], vs, W => vs = [W]
  | o :: r, vs, W => (o = 4 ∧ ∃ v q, vs = v :: q ∧ RA r (dNo v :: q) W) ∨ ((o = 1 ∨ o = 2 ∨ o = 3) ∧ ∃ v u q, vs = v :: u :: q ∧ RA r (cmb (sgf o) u v :: q) W)
/-- what does not yield to an operator of some firmness -/
def lowO (f : Int) : List Int → Prop
  | [] => True
  | o :: _ => o = 5 ∨ o < f
abbrev rdS : List Int := [286, 291, 292]
abbrev rdA : List Int := [188, 189, 190, 191]
section QRD
variable {τ τ' : TT} {l : List Int} {as : List Ato} {V : List Den} {O : List Int} {W : Den} {f : Int}
theorem lnW_c {α : Type} {x : α} {r : List α} : lnW (x :: r) = lnW r + 1 := by unfold lnW; rw [List.length_cons]; omega
theorem lnW_a {α : Type} {a b : List α} : lnW (a ++ b) = lnW a + lnW b := by unfold lnW; rw [List.length_append]; omega
theorem t_qReduceTo0 {Q : TT → Prop} (hlow : lowO f O) (hf : 1 ≤ f ∧ f ≤ 4) : ∀ (P : List Int) (vs : List Den) (D : List Den) (τ1 : TT), RA P vs W → (∀ o, o ∈ P → f ≤ o) → NDS τ1 as D → VLQ τ1 D (vs ++ V) → WTQ τ1 (P ++ O) → (∀ d, d ∈ vs ++ V → wfD d) → lnW D + lnW (P ++ O) < 700 → lnW (vs ++ V) ≤ 700 → Fr τ τ1 rdS rdA →
    (∀ τ' D', Fr τ τ' rdS rdA → lnW D' = lnW P → wfD W → NDS τ' as (D ++ D') → VLQ τ' (D ++ D') (W :: V) → WTQ τ' O → Q τ') → W_qReduceTo_0 f τ1 Q := by
  intro P
  induction P with
  | nil =>
    intro vs D τ1 hRA _ hN hV hW hwf hb hbv hF hQ
    have hRA : vs = [W] := hRA
    subst hRA
    have lO := lnW_nn (l := O)
    have FIN : Q τ1 := hQ τ1 [] hF rfl (hwf W (List.mem_cons_self ..)) (by rw [List.append_nil]; exact hN) (by rw [List.append_nil]; exact hV) hW
    cases O with
    | nil =>
      have e : τ1.1 292 = 0 := hW.1
      refine s_qReduceTo_0 (fun r1 => ⟨fun _ => FIN, fun c4 => by omega⟩)
    | cons o r =>
      obtain ⟨w1, w2⟩ := WTQ.top (hW : WTQ τ1 (o :: r))
      have lr := lnW_nn (l := r)
      have hb2 : lnW D + lnW (o :: r) < 700 := hb
      have lD := lnW_nn (l := D)
      rw [lnW_c] at hb2
      refine s_qReduceTo_0 ?_
      rw [w2]
      have hl : o = 5 ∨ o < f := hlow
      exact fun r1 => ⟨fun c4 => FIN, fun c4 => ⟨by omega, fun r17 => ⟨fun c19 => FIN, fun c19 r32 => ⟨by omega, fun c34 => FIN, fun c34 => absurd hl (by omega)⟩⟩⟩⟩
  | cons o r ihr =>
    intro vs D τ1 hRA hP hN hV hW hwf hb hbv hF hQ
    obtain ⟨w1, w2⟩ := WTQ.top (ops := r ++ O) (hW : WTQ τ1 (o :: (r ++ O)))
    have lr := lnW_nn (l := r ++ O)
    have lD := lnW_nn (l := D)
    have hb2 : lnW D + lnW (o :: (r ++ O)) < 700 := hb
    rw [lnW_c] at hb2
    have hfo := hP o (List.mem_cons_self ..)
    have ho4 : o ≠ 5 ∧ o ≤ 4 := by rcases hRA with ⟨z, -⟩ | ⟨z, -⟩ <;> omega
    refine s_qReduceTo_0 ?_
    rw [w2]
    refine fun r1 => ⟨fun c4 => by omega, fun c4 => ⟨by omega, fun r17 => ⟨fun c19 => absurd c19 ho4.1, fun c19 r32 => ⟨by omega, fun c34 => absurd c34 (by omega), fun c34 => ?_⟩⟩⟩⟩
    have hor : (o = 4 ∧ ∃ v r, vs ++ V = v :: r) ∨ ((o = 1 ∨ o = 2 ∨ o = 3) ∧ ∃ v u r, vs ++ V = v :: u :: r) := by
      rcases hRA with ⟨z, v, q, z1, -⟩ | ⟨z, v, u, q, z1, -⟩
      · exact Or.inl ⟨z, v, q ++ V, by rw [z1]; rfl⟩
      · exact Or.inr ⟨z, v, u, q ++ V, by rw [z1]; rfl⟩
    refine t_qReduce (ops := r ++ O) hN hV hW (by omega) ⟨hbv, by omega⟩ hwf hor (fun τ2 d hF2 hd hN2 hV2 hW2 => ?_)
    have e1 : lnW (D ++ [d]) = lnW D + 1 := by rw [lnW_a]; rfl
    have GO : ∀ vs2, RA r vs2 W → rd1 o (vs ++ V) = vs2 ++ V → lnW (vs2 ++ V) ≤ 700 → (∀ x, x ∈ vs2 ++ V → wfD x) → W_qReduceTo_0 f τ2 Q := fun vs2 h1 h2 h3 h4 => by
      rw [h2] at hV2
      refine ihr vs2 (D ++ [d]) τ2 h1 (fun x hx => hP x (List.mem_cons_of_mem _ hx)) hN2 hV2 hW2 h4 (by rw [e1]; omega) h3 (hF.tr hF2) (fun τ3 D3 hF3 a1 a2 a3 a4 a5 => ?_)
      rw [List.append_assoc] at a3 a4
      exact hQ τ3 ([d] ++ D3) hF3 (by rw [lnW_a, a1, lnW_c]; show 1 + lnW r = lnW r + 1; omega) a2 a3 a4 a5
    rcases hRA with ⟨z, v, q, z1, z2⟩ | ⟨z, v, u, q, z1, z2⟩
    · have wv : wfD v := hwf v (by rw [z1]; exact List.mem_cons_self ..)
      refine GO (dNo v :: q) z2 (by rw [z1, z]; rfl) ?_ (fun x hx => ?_)
      · rw [z1] at hbv; exact hbv
      · rcases List.mem_cons.mp hx with y | y
        · rw [y]; exact wv.no
        · exact hwf x (by rw [z1]; exact List.mem_cons_of_mem _ y)
    · have wv : wfD v := hwf v (by rw [z1]; exact List.mem_cons_self ..)
      have wu : wfD u := hwf u (by rw [z1]; exact List.mem_cons_of_mem _ (List.mem_cons_self ..))
      have hsg : sgf o = -3 ∨ sgf o = -4 ∨ sgf o = -5 := by unfold sgf; split; omega; split; omega; omega
      refine GO (cmb (sgf o) u v :: q) z2 ?_ ?_ (fun x hx => ?_)
      · rw [z1]
        exact if_neg (by omega)
      · rw [z1] at hbv
        have hbv : lnW (v :: u :: (q ++ V)) ≤ 700 := hbv
        rw [lnW_c, lnW_c] at hbv
        show lnW (cmb (sgf o) u v :: (q ++ V)) ≤ 700
        rw [lnW_c]; omega
      · rcases List.mem_cons.mp hx with y | y
        · rw [y]; exact wu.cmb wv hsg
        · exact hwf x (by rw [z1]; exact List.mem_cons_of_mem _ (List.mem_cons_of_mem _ y))
end QRD
section QAT
variable {τ τ' : TT} {l : List Int} {as : List Ato} {D vs : List Den} {v : Ato} {f a b s c fld : Int} {ph : Bool}
theorem ATS.put (h : ATS τ l as) (h1 : τ'.1 276 = lnW as + 1) (hk : ∀ i, i ∈ ([180, 181, 182, 183, 184, 185, 186, 187] : List Int) → ∀ k, k ≠ lnW as → τ'.2 i k = τ.2 i k) (hv : ATM1 τ' l (lnW as) v) : ATS τ' l (as ++ [v]) := by
  refine ⟨by rw [h1, lnW_a]; rfl, fun n w hn => ?_⟩
  rcases get_cases hn with ⟨c1, c2⟩ | ⟨c1, c2⟩
  · have hne : (n : Int) ≠ lnW as := by unfold lnW; omega
    have z := h.2 n w c1
    unfold ATM1 at *
    rw [hk 180 (by decide) _ hne, hk 181 (by decide) _ hne, hk 182 (by decide) _ hne, hk 183 (by decide) _ hne, hk 184 (by decide) _ hne, hk 185 (by decide) _ hne, hk 186 (by decide) _ hne, hk 187 (by decide) _ hne]
    exact z
  · rw [show (n : Int) = lnW as by rw [c1]; rfl, c2]; exact hv
theorem t_qAtomNumber {Q : Int → TT → Prop} (h : QTX τ l) (hA : ATS τ l as) (hl : lnW as < 40) (h272 : τ.1 272 = fld) (h273 : τ.1 273 = a) (h274 : τ.1 274 = b) (h275 : τ.1 275 = b2i ph) (hab : 0 ≤ a ∧ a ≤ b ∧ b ≤ len l) (hf : 0 ≤ fld ∧ fld ≤ 12) (h299 : τ.1 299 = loQ (fld, sub l a b, ph)) (h300 : τ.1 300 = hiQ (fld, sub l a b, ph))
    (hQ : ∀ τ', Fr τ τ' [276] [180, 181, 182, 183, 184, 185, 186, 187] → τ'.2 184 (lnW as) = 0 → ATS (τ'.a 184 (lnW as) (0 + 1)) l (as ++ [(fld, sub l a b, ph)]) → Q (lnW as) τ') : w_qAtomNumber τ Q := by
  have hn := h.ln
  have h2 := h.2.2
  have l0 := lnW_nn (l := as)
  refine s_qAtomNumber ?_
  rw [hA.1, h272, h273, h274, h275]
  have hst : -2 ≤ stQ fld (sub l a b) ph ∧ stQ fld (sub l a b) ph ≤ 2000 := by
    have hls := len_sub hab
    have z := idx_in (l := sub l a b) (x := 42) (i := 0) (Int.le_refl 0) (len_nn _)
    have hs : -1 ≤ starF (sub l a b) ph ∧ starF (sub l a b) ph ≤ 2000 := by
      unfold starF
      split
      · decide
      · omega
    unfold stQ
    generalize starF (sub l a b) ph = sf at *
    split
    · decide
    · split
      · omega
      · decide
  -- the end
  have E89 : ∀ (x : Int) (τ1 : TT), (x = if mayF fld = true then stQ fld (sub l a b) ph else -1) → Fr τ τ1 [] [180, 181, 182, 187] → (∀ i, i ∈ ([180, 181, 182, 187] : List Int) → ∀ k, k ≠ lnW as → τ1.2 i k = τ.2 i k) → τ1.2 180 (lnW as) = fld → τ1.2 187 (lnW as) = b2i ph → τ1.2 181 (lnW as) = a → τ1.2 182 (lnW as) = b - a → W_qAtomNumber_89 (lnW as) x (lnW as) τ1 Q := fun x τ1 hx hF1 hk1 k1 k2 k3 k4 => by
    have hxr : -2 ≤ x ∧ x ≤ 2000 := by rw [hx]; split; exact hst; decide
    refine s_qAtomNumber_89 ?_
    rw [hF1.s 276, hF1.s 299, hF1.s 300, hA.1, h299, h300]
    refine ⟨by omega, by omega, by omega, fun r103 r113 r119 => ⟨by omega, by omega, ?_⟩⟩
    have F2 : Fr τ (((((τ1.a 183 (lnW as) x).a 184 (lnW as) 0).a 185 (lnW as) (loQ (fld, sub l a b, ph))).a 186 (lnW as) (hiQ (fld, sub l a b, ph))).s 276 (lnW as + 1)) [276] [180, 181, 182, 183, 184, 185, 186, 187] := (((((show Fr τ τ1 [276] [180, 181, 182, 183, 184, 185, 186, 187] from Fr.rf.tr hF1).pa _ _ _).pa _ _ _).pa _ _ _).pa _ _ _).ps _ _
    refine hQ _ F2 (up_at _ _ _) (hA.put rfl (fun i hi k hk => ?_) ⟨a, b, hab, rfl, k1, k2, k3, k4, ?_, ?_, ?_, ?_⟩)
    · rcases List.mem_cons.mp hi with z | hi
      · subst z; exact hk1 180 (by decide) k hk
      rcases List.mem_cons.mp hi with z | hi
      · subst z; exact hk1 181 (by decide) k hk
      rcases List.mem_cons.mp hi with z | hi
      · subst z; exact hk1 182 (by decide) k hk
      rcases List.mem_cons.mp hi with z | hi
      · subst z; exact (up_ne _ hk).trans (congrFun (hF1.a 183) k)
      rcases List.mem_cons.mp hi with z | hi
      · subst z; exact ((up_ne _ hk).trans (up_ne _ hk)).trans (congrFun (hF1.a 184) k)
      rcases List.mem_cons.mp hi with z | hi
      · subst z; exact (up_ne _ hk).trans (congrFun (hF1.a 185) k)
      rcases List.mem_cons.mp hi with z | hi
      · subst z; exact (up_ne _ hk).trans (congrFun (hF1.a 186) k)
      rcases List.mem_cons.mp hi with z | hi
      · subst z; exact hk1 187 (by decide) k hk
      cases hi
    · exact (up_at _ _ _).trans hx
    · exact up_at _ _ _
    · exact up_at _ _ _
    · exact up_at _ _ _
  have F4 : Fr τ ((((τ.a 180 (lnW as) fld).a 187 (lnW as) (b2i ph)).a 181 (lnW as) a).a 182 (lnW as) (b - a)) [] [180, 181, 182, 187] := (((Fr.rf.pa _ _ _).pa _ _ _).pa _ _ _).pa _ _ _
  have K4 : ∀ i, i ∈ ([180, 181, 182, 187] : List Int) → ∀ k, k ≠ lnW as → ((((τ.a 180 (lnW as) fld).a 187 (lnW as) (b2i ph)).a 181 (lnW as) a).a 182 (lnW as) (b - a)).2 i k = τ.2 i k := fun i hi k hk => by
    rcases List.mem_cons.mp hi with z | hi
    · subst z; exact up_ne _ hk
    rcases List.mem_cons.mp hi with z | hi
    · subst z; exact up_ne _ hk
    rcases List.mem_cons.mp hi with z | hi
    · subst z; exact up_ne _ hk
    rcases List.mem_cons.mp hi with z | hi
    · subst z; exact up_ne _ hk
    cases hi
  have MAY : mayF fld = true → W_qAtomNumber_81 (lnW as) (lnW as) ((((τ.a 180 (lnW as) fld).a 187 (lnW as) (b2i ph)).a 181 (lnW as) a).a 182 (lnW as) (b - a)) Q := fun z => by
    refine s_qAtomNumber_81 (t_qStar (h.fr rfl rfl) h272 h273 h274 h275 hab (fun r82 => E89 _ _ (by rw [if_pos z]) F4 K4 (up_at _ _ _) (up_at _ _ _) (up_at _ _ _) (up_at _ _ _)))
  exact fun r1 r11 => ⟨by omega, fun r21 r31 r41 => ⟨by omega, fun c60 => MAY (mayF_c.mpr (Or.inl (by omega))), fun c60 => ⟨fun c69 => MAY (mayF_c.mpr (Or.inr (Or.inl c69))), fun c69 => ⟨fun c78 => E89 (-1) _ (by rw [if_neg (fun z => by have := mayF_c.mp z; omega)]) F4 K4 (up_at _ _ _) (up_at _ _ _) (up_at _ _ _) (up_at _ _ _), fun c78 => MAY (mayF_c.mpr (Or.inr (Or.inr c78)))⟩⟩⟩⟩
end QAT
