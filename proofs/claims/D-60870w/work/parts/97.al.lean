/-! the twin: identities -/
set_option maxRecDepth 100000
theorem t_hIsBlank {c : Int} {τ : TT} {Q : Int → TT → Prop} (hc : -2147483648 ≤ c ∧ c < 2147483648) (hQ : Q (if chBl c then 1 else 0) τ) : w_hIsBlank c τ Q := by
  have e : ∀ x, (if chBl c then (1 : Int) else 0) = x → Q x τ := fun x hx => hx ▸ hQ
  exact s_hIsBlank ⟨hc, fun c3 => e _ (if_pos (Or.inl c3)), fun c3 => ⟨fun c9 => e _ (if_neg (by unfold chBl; omega)), fun c9 => e _ (if_pos (Or.inr c9))⟩⟩
/-- identities from a place on -/
def idN (v : List Int) (k : Int) : List (List Int) := if 0 ≤ idx v 60 k then idS v (idx v 60 k) else []
theorem idx_n {l : List Int} {x i : Int} (h : 0 ≤ i) (hn : ∀ k, i ≤ k → k < len l → gt l k ≠ x) : idx l x i = -1 := idx_no fun k k0 k1 => hn k (by omega) k1
theorem idx_y {l : List Int} {x i r : Int} (h : 0 ≤ i) (h0 : i ≤ r) (h1 : r < len l) (h2 : gt l r = x) (hn : ∀ k, i ≤ k → k < r → gt l k ≠ x) : idx l x i = r := idx_at (by omega) h1 h2 fun k k0 k1 => hn k (by omega) k1
theorem t_hIdentities {v : List Int} {τ : TT} {Q : Int → TT → Prop} (h : HVAL τ v)
    (hQ : ∀ τ', Fr τ τ' [] [89, 90, 91, 92, 93] → PRT τ' 4 (idA v) → Q (lnW (idA v)) τ') : w_hIdentities 0 τ Q := by
  have hb := h.2.2.2.1
  have hl := h.2.2.2.2
  have n0 := len_nn v
  have hA : idA v = idN v 0 := rfl
  rw [hA] at hQ
  generalize hR : idN v 0 = R at hQ
  have a1 : arF 4 = 1 := rfl
  have HV : ∀ τ1, Fr τ τ1 [] [89, 90, 91, 92, 93] → HVAL τ1 v := fun τ1 hF => h.fr (hF.a 81) (hF.a 82) (hF.a 83)
  have L : ∀ (N : Nat) (k : Int) (T : List (List Int)) (τ1 : TT), (len v + 1 - k).toNat = N → 0 ≤ k → k ≤ len v + 1 → Fr τ τ1 [] [89, 90, 91, 92, 93] → PRT τ1 4 T → 3 * lnW T ≤ k → τ1.2 90 1 ≤ k → T ++ idN v k = R → W_hIdentities_23 k (len v) τ1 Q := by
    intro N
    induction N using Nat.strongRecOn with
    | ind N ih =>
      intro k T τ1 hN k0 k1 hF hP hT h90 hI
      have hV := HV τ1 hF
      have t0 := lnW_nn (l := T)
      have tp : topF τ1 4 = 6000 + τ1.2 90 1 := by unfold topF; rw [a1]; omega
      refine s_hIdentities_23 ⟨by omega, by omega, fun c25 r217 => ?_, fun c25 => ?_⟩
      · have e : idN v k = [] := by unfold idN; rw [idx_n k0 (fun j j0 j1 => absurd j1 (by omega)), if_neg (by decide)]
        rw [e, List.append_nil] at hI
        rw [hP.1, hI]
        rw [hI] at hP
        exact hQ τ1 hF hP
      -- behind a close
      have W204 : ∀ (c : Int) (T2 : List (List Int)) (τ2 : TT), k ≤ c → c ≤ len v → Fr τ τ2 [] [89, 90, 91, 92, 93] → PRT τ2 4 T2 → 3 * lnW T2 ≤ c + 1 → τ2.2 90 1 ≤ c + 1 → T2 ++ idN v (c + 1) = R → W_hIdentities_204 (len v) c τ2 Q := fun c T2 τ2 h1 h2 h3 h4 h5 h6 h7 =>
        s_hIdentities_204 (ih (len v + 1 - (c + 1)).toNat (by omega) (c + 1) T2 τ2 rfl (by omega) (by omega) h3 h4 h5 h6 h7)
      have EMP : ∀ c, len v ≤ c → idN v (c + 1) = [] := fun c hc => by unfold idN; rw [idx_n (by omega) (fun j j0 j1 => absurd j1 (by omega)), if_neg (by decide)]
      -- open and close are known
      have W83 : ∀ op cl, k ≤ op → op ≤ cl → cl ≤ len v → (op < len v → gt v op = 60) → (∀ j, k ≤ j → j < op → gt v j ≠ 60) → (cl < len v → gt v cl = 62) → (∀ j, op ≤ j → j < cl → gt v j ≠ 62) → W_hIdentities_83 (len v) op cl τ1 Q := by
        intro op cl o0 o1 o2 h60 hno60 h62 hno62
        -- no close: nothing more
        have NOC : cl = len v → W_hIdentities_204 (len v) cl τ1 Q := fun z => by
          refine W204 cl T τ1 (by omega) o2 hF hP (by omega) (by omega) ?_
          rw [EMP cl (by omega)]
          have e : idN v k = [] := by
            unfold idN
            by_cases y : op < len v
            · rw [idx_y k0 o0 y (h60 y) hno60, if_pos (by omega), idS, dif_pos ⟨by omega, y⟩, idx_n (l := v) (x := 62) (i := op) (by omega) (fun j j0 j1 => hno62 j j0 (by omega)), if_neg (by decide)]
            · rw [idx_n k0 (fun j j0 j1 => hno60 j j0 (by omega)), if_neg (by decide)]
          rw [e] at hI
          exact hI
        by_cases hcl : cl < len v
        rotate_left
        · have hz : cl = len v := by omega
          have BL : ∀ (N2 : Nat) (i f : Int), (cl - i).toNat = N2 → 0 ≤ i → i ≤ max (op + 1) cl → (f = 0 ∨ f = 1) → W_hIdentities_92 (len v) op cl f i τ1 Q := by
            intro N2
            induction N2 using Nat.strongRecOn with
            | ind N2 im =>
              intro i f hN2 i0 i1 hf
              refine s_hIdentities_92 ⟨by omega, by omega, fun c96 => ⟨by omega, fun _ => NOC hz, fun c => absurd c (by omega)⟩, fun c96 => ⟨by omega, fun c101 => s_hIdentities_117 (im (cl - (i + 1)).toNat (by omega) (i + 1) 1 rfl (by omega) (by omega) (Or.inr rfl)), fun c101 => ⟨by omega, fun r110 => ?_⟩⟩⟩
              rw [hV.rd ⟨i0, by omega⟩]
              have b := hb.at i0 (show i < len v by omega)
              exact t_hIsBlank (by omega) fun r111 => ⟨fun _ => im (cl - (i + 1)).toNat (by omega) (i + 1) 0 rfl (by omega) (by omega) (Or.inl rfl), fun _ => s_hIdentities_117 (im (cl - (i + 1)).toNat (by omega) (i + 1) 1 rfl (by omega) (by omega) (Or.inr rfl))⟩
          exact s_hIdentities_83 (BL _ (op + 1) 0 rfl (by omega) (by omega) (Or.inl rfl))
        have hop : op < len v := by omega
        have h60' := h60 hop
        have h62' := h62 hcl
        have hoc : op < cl := by
          by_cases y : op = cl
          · rw [y] at h60'; rw [h60'] at h62'; exact absurd h62' (by decide)
          · omega
        have e60 := idx_y k0 o0 hop h60' hno60
        have e62 := idx_y (i := op) (by omega) (by omega) hcl h62' hno62
        have hls := len_sub (l := v) (i := op + 1) (n := cl) ⟨by omega, by omega, by omega⟩
        have hnext : idx v 60 cl = idx v 60 (cl + 1) := by
          rcases idx_spec (l := v) (x := 60) (i := cl + 1) with ⟨z1, z2⟩ | ⟨z1, z2, z3, z4⟩
          · rw [z1]
            refine idx_n (by omega) fun j j0 j1 => ?_
            by_cases y : j = cl
            · rw [y, h62']; decide
            · exact z2 j (by omega) j1
          · refine idx_y (by omega) (by omega) z2 z3 fun j j0 j1 => ?_
            by_cases y : j = cl
            · rw [y, h62']; decide
            · exact z4 j (by omega) j1
        have eN : idN v k = (if idB (sub v (op + 1) cl) = true then [sub v (op + 1) cl] else []) ++ idN v (cl + 1) := by
          unfold idN
          rw [e60, if_pos (by omega), idS, dif_pos ⟨by omega, hop⟩, e62, if_pos (by omega), hnext]
          congr 1
          by_cases y : 0 ≤ idx v 60 (cl + 1)
          · rw [if_pos y, if_pos y]
            have q := (idx_spec (l := v) (x := 60) (i := cl + 1))
            rw [show max (op + 1) (idx v 60 (cl + 1)) = idx v 60 (cl + 1) by omega]
          · rw [if_neg y, if_neg y]
        rw [eN] at hI
        have SBL : ∀ x, idx (sub v (op + 1) cl) x 0 < 0 ↔ ∀ j, op + 1 ≤ j → j < cl → gt v j ≠ x := fun x => by
          rcases idx_spec (l := sub v (op + 1) cl) (x := x) (i := 0) with ⟨z1, z2⟩ | ⟨z1, z2, z3, z4⟩
          · refine ⟨fun _ j j0 j1 => ?_, fun _ => by omega⟩
            have y := z2 (j - (op + 1)) (by omega) (by omega)
            rw [gt_sub (l := v) ⟨by omega, by omega, by omega⟩ (by omega) (by omega), show op + 1 + (j - (op + 1)) = j by omega] at y
            exact y
          · refine ⟨fun y => absurd y (by omega), fun y => ?_⟩
            have q := y (op + 1 + idx (sub v (op + 1) cl) x 0) (by omega) (by omega)
            rw [← gt_sub (l := v) (n := cl) ⟨by omega, by omega, by omega⟩ (by omega) (by omega)] at q
            exact absurd z3 q
        have hIB : idB (sub v (op + 1) cl) = true ↔ (1 ≤ cl - op - 1 ∧ cl - op - 1 ≤ 100 ∧ ∀ j, op + 1 ≤ j → j < cl → ¬ chBl (gt v j)) := by
          unfold idB
          rw [Bool.and_eq_true, Bool.and_eq_true, Bool.and_eq_true, Bool.not_eq_true', decide_eq_false_iff_not, decide_eq_true_iff, decide_eq_true_iff, decide_eq_true_iff, SBL, SBL]
          constructor
          · rintro ⟨q1, q2, q3, q4⟩
            refine ⟨?_, by omega, fun j j0 j1 q => q.elim (q3 j j0 j1) (q4 j j0 j1)⟩
            by_cases y : cl - op - 1 = 0
            · exact absurd (List.eq_nil_of_length_eq_zero (by unfold len at hls; omega)) q1
            · omega
          · rintro ⟨q1, q2, q3⟩
            refine ⟨fun y => ?_, by omega, fun j j0 j1 q => q3 j j0 j1 (Or.inl q), fun j j0 j1 q => q3 j j0 j1 (Or.inr q)⟩
            rw [y] at hls
            have : (0 : Int) = cl - (op + 1) := hls
            omega
        have BAD : ¬ idB (sub v (op + 1) cl) = true → W_hIdentities_204 (len v) cl τ1 Q := fun z => by
          rw [if_neg z, List.nil_append] at hI
          exact W204 cl T τ1 (by omega) o2 hF hP (by omega) (by omega) hI
        have B1 : ∀ (N2 : Nat) (i : Int), (cl - i).toNat = N2 → op + 1 ≤ i → i ≤ cl → ¬ idB (sub v (op + 1) cl) = true → W_hIdentities_92 (len v) op cl 1 i τ1 Q := by
          intro N2
          induction N2 using Nat.strongRecOn with
          | ind N2 im =>
            intro i hN2 i0 i1 hbad
            exact s_hIdentities_92 ⟨by omega, by omega, fun c96 => ⟨by omega, fun c => absurd c (by omega), fun _ => ⟨by decide, fun _ => BAD hbad, fun c => absurd c (by decide)⟩⟩, fun c96 => ⟨by decide, fun _ => s_hIdentities_117 (im (cl - (i + 1)).toNat (by omega) (i + 1) rfl (by omega) (by omega) hbad), fun c => absurd c (by decide)⟩⟩
        have B0 : ∀ (N2 : Nat) (i : Int), (cl - i).toNat = N2 → op + 1 ≤ i → i ≤ cl → (∀ j, op + 1 ≤ j → j < i → ¬ chBl (gt v j)) → W_hIdentities_92 (len v) op cl 0 i τ1 Q := by
          intro N2
          induction N2 using Nat.strongRecOn with
          | ind N2 im =>
            intro i hN2 i0 i1 hall
            refine s_hIdentities_92 ⟨by omega, by omega, fun c96 => ⟨by omega, fun c => absurd c (by omega), fun _ => ⟨by decide, fun c => absurd rfl c, fun _ => ⟨by omega, fun c153 => BAD (fun z => by have := (hIB.mp z).1; omega), fun c153 => ⟨fun c160 => BAD (fun z => by have := (hIB.mp z).2.1; omega), fun c160 => ?_⟩⟩⟩⟩, fun c96 => ⟨by decide, fun c => absurd rfl c, fun _ => ⟨by omega, fun r110 => ?_⟩⟩⟩
            · have hOK : idB (sub v (op + 1) cl) = true := hIB.mpr ⟨c153, c160, fun j j0 j1 => hall j j0 (by omega)⟩
              rw [if_pos hOK] at hI
              refine t_hBeginPart (by decide) hP (by omega) (by omega) fun τ2 hP2 hO2 h2 => ?_
              rw [a1] at h2
              have A : ∀ (N3 : Nat) (j : Int) (t : List Int) (τ3 : TT), (cl - j).toNat = N3 → op + 1 ≤ j → j ≤ cl → PKp τ1 τ3 4 → PRO τ3 4 T t → t = sub v (op + 1) j → τ3.2 90 1 = τ1.2 90 1 + len t → W_hIdentities_174 (len v) cl j τ3 Q := by
                intro N3
                induction N3 using Nat.strongRecOn with
                | ind N3 ik =>
                  intro j t τ3 hN3 j0 j1 hP3 hO3 ht h903
                  have hF3 : Fr τ τ3 [] [89, 90, 91, 92, 93] := hF.tr hP3.1
                  have hV3 := HV τ3 hF3
                  have hlt : len t = j - (op + 1) := by rw [ht, len_sub ⟨by omega, j0, by omega⟩]
                  have tp3 : topF τ3 4 = 6000 + τ3.2 90 1 := by unfold topF; rw [a1]; omega
                  refine s_hIdentities_174 ⟨by omega, by omega, fun c178 => ?_, fun c178 => ⟨by omega, fun r189 => ?_⟩⟩
                  · have ej : j = cl := by omega
                    subst ej
                    refine t_hEndPart (by decide) hO3 fun τ4 hP4 hR4 h4 => ?_
                    rw [a1] at h4
                    rw [ht] at hR4
                    refine W204 j _ τ4 (by omega) o2 (hF3.tr hP4.1) hR4 ?_ (by omega) (by rw [List.append_assoc]; exact hI)
                    rw [lnW_app]
                    show 3 * (lnW T + 1) ≤ _
                    omega
                  · rw [hV3.rd ⟨by omega, by omega⟩]
                    have b := hb.at (k := j) (by omega) (by omega)
                    refine t_hAdd (by decide) hO3 (by omega) (by omega) fun τ4 hP4 hO4 h4 => ?_
                    rw [a1] at h4
                    exact ik (cl - (j + 1)).toNat (by omega) (j + 1) _ τ4 rfl (by omega) (by omega) (hP3.tr hP4) hO4 (by rw [ht, sub_snoc ⟨by omega, j0, by omega⟩]) (by rw [h4, h903, len_app, len_1]; omega)
              exact A _ (op + 1) [] τ2 rfl (Int.le_refl _) (by omega) hP2 hO2 (by rw [sub_same]) (by rw [h2]; show _ = _ + 0; omega)
            · rw [hV.rd ⟨by omega, by omega⟩]
              have b := hb.at (k := i) (by omega) (by omega)
              refine t_hIsBlank (by omega) fun r111 => ⟨fun c114 => ?_, fun c114 => ?_⟩
              · have nb : ¬ chBl (gt v i) := fun y => by rw [if_pos y] at c114; exact absurd c114 (by decide)
                refine im (cl - (i + 1)).toNat (by omega) (i + 1) rfl (by omega) (by omega) fun j j0 j1 => ?_
                by_cases y : j = i
                · rw [y]; exact nb
                · exact hall j j0 (by omega)
              · have yb : chBl (gt v i) := Classical.byContradiction fun y => c114 (if_neg y)
                exact s_hIdentities_117 (B1 _ (i + 1) rfl (by omega) (by omega) (fun z => (hIB.mp z).2.2 i i0 c96 yb))
        exact s_hIdentities_83 (B0 _ (op + 1) rfl (Int.le_refl _) (by omega) (fun j j0 j1 => absurd j1 (by omega)))
      have W59 : ∀ op, k ≤ op → op ≤ len v → (op < len v → gt v op = 60) → (∀ j, k ≤ j → j < op → gt v j ≠ 60) → ∀ (N2 : Nat) (c : Int), (len v - c).toNat = N2 → op ≤ c → c ≤ len v → (∀ j, op ≤ j → j < c → gt v j ≠ 62) → W_hIdentities_59 (len v) op c τ1 Q := by
        intro op o0 o1 h60 hno60 N2
        induction N2 using Nat.strongRecOn with
        | ind N2 im =>
          intro c hN2 c0 c1 hno
          refine s_hIdentities_59 ⟨by omega, by omega, fun c62 => W83 op c o0 c0 c1 h60 hno60 (fun z => absurd z (by omega)) hno, fun c62 => ⟨by omega, fun r71 => ?_⟩⟩
          rw [hV.rd ⟨by omega, c62⟩]
          refine ⟨fun c74 => W83 op c o0 c0 c1 h60 hno60 (fun _ => c74) hno, fun c74 => im (len v - (c + 1)).toNat (by omega) (c + 1) rfl (by omega) (by omega) fun j j0 j1 => ?_⟩
          by_cases y : j = c
          · rw [y]; exact c74
          · exact hno j j0 (by omega)
      have W31 : ∀ (N2 : Nat) (c : Int), (len v - c).toNat = N2 → k ≤ c → c ≤ len v → (∀ j, k ≤ j → j < c → gt v j ≠ 60) → W_hIdentities_31 (len v) c τ1 Q := by
        intro N2
        induction N2 using Nat.strongRecOn with
        | ind N2 im =>
          intro c hN2 c0 c1 hno
          refine s_hIdentities_31 ⟨by omega, by omega, fun c34 => W59 c c0 c1 (fun z => absurd z (by omega)) hno _ c rfl (Int.le_refl _) c1 (fun j j0 j1 => absurd j1 (by omega)), fun c34 => ⟨by omega, fun r43 => ?_⟩⟩
          rw [hV.rd ⟨by omega, c34⟩]
          refine ⟨fun c46 => W59 c c0 c1 (fun _ => c46) hno _ c rfl (Int.le_refl _) c1 (fun j j0 j1 => absurd j1 (by omega)), fun c46 => im (len v - (c + 1)).toNat (by omega) (c + 1) rfl (by omega) (by omega) fun j j0 j1 => ?_⟩
          by_cases y : j = c
          · rw [y]; exact c46
          · exact hno j j0 (by omega)
      exact W31 _ k rfl (Int.le_refl _) (by omega) (fun j j0 j1 => absurd j1 (by omega))
  refine s_hIdentities (t_hForget ⟨by decide, by decide, by decide⟩ ⟨by decide, by decide⟩ fun τ1 hF1 e91 e90 => ⟨by decide, fun r12 r20 => ?_⟩)
  have hF : Fr τ τ1 [] [89, 90, 91, 92, 93] := Fr.rf.tr hF1
  have hV := HV τ1 hF
  rw [hV.1, hV.2.1, Int.zero_add]
  exact L _ 0 [] τ1 rfl (Int.le_refl 0) (by omega) hF (PRT.new (e91 4 (by decide) (by decide)) (by rw [a1]; omega)) (Int.le_refl _) (by omega) hR
