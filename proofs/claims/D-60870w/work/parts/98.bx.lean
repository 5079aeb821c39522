/-! the twin: a version is loaded -/
set_option maxRecDepth 100000
/-- frames one behind the other, by the kernel -/
theorem Fr.tk {τ τ' τ'' : TT} {sc ar sc' ar' : List Int} (h : Fr τ τ' sc ar) (h2 : Fr τ' τ'' sc' ar') (hs : (sc'.all fun k => sc.contains k) = true := by decide +kernel) (ha : (ar'.all fun k => ar.contains k) = true := by decide +kernel) : Fr τ τ'' sc ar := h.tr h2 hs ha
/-- a version's bytes -/
def BYT (τ : TT) (v : Int) (m : List Int) : Prop := τ.2 37 v = len m ∧ (0 ≤ τ.2 36 v ∧ τ.2 36 v + len m ≤ 220000) ∧ ∀ i, 0 ≤ i → i < len m → τ.2 38 (τ.2 36 v + i) % 256 = gt m i
/-- fields of the same pieces, as many told -/
def fEq (a b : FdV) : Prop := a.1 = b.1 ∧ a.2.2.1 = b.2.2.1
/-- what the loaded version is read as -/
def LDD (τ : TT) (m : List Int) : Prop := LNS τ m (lsG m 0) ∧ ENS τ (lsG m 0) (ptE m) ∧ MSK (τ.1 195) (ctS m) ∧ ∃ V n c, TKF τ V n c ∧ ∀ f : Nat, f < 5 → fEq (V (f : Int)) ((ctFd m).getD f fd0)
/-- what is asked of a mail, so that all of it has room -/
def ldOk (m : List Int) : Prop := len m ≤ 2000 ∧ byt m ∧ tnOk (lsG m 0) (ptE m) (ctS m) ∧ nmOk (ptE m) (ctA m) ∧ mbOk (ctFr m) ∧ mbOk (ctTo m) ∧ len (ctSj m) ≤ 1890 ∧
  (len (vlF (ctH m) FRMN) ≤ 1500 ∧ len (vlF (ctH m) TON) ≤ 1500 ∧ len (vlF (ctH m) CCN) ≤ 1500) ∧
  sumL (srT (ctFr m)) + sumL (srT (ctTo m)) + len (ctSj m) + sumL (ctTx m) + sumL (ntX (ptE m) (ctA m)) ≤ 4000 ∧
  ((ctFr m).length : Int) + ((ctTo m).length : Int) + 1 + ((ctS m).length : Int) + ((ctA m).length : Int) ≤ 4000
theorem ctA_sA {m : List Int} : sA (ctA m) 0 ((ptE m).length : Int) := hgF_sA
theorem ctFd_at {m : List Int} {P : Nat → FdV → Prop} (h0 : P 0 (adF false fd0 (srT (ctFr m)))) (h1 : P 1 (adF false fd0 (srT (ctTo m)))) (h2 : P 2 (fdA (ctSj m) 300 false fd0)) (h3 : P 3 (adF true fd0 (ctTx m))) (h4 : P 4 (adF false fd0 (ntX (ptE m) (ctA m)))) : ∀ f : Nat, f < 5 → P f ((ctFd m).getD f fd0) := by
  unfold ctFd
  generalize adF false fd0 (srT (ctFr m)) = a0 at *
  generalize adF false fd0 (srT (ctTo m)) = a1 at *
  generalize fdA (ctSj m) 300 false fd0 = a2 at *
  generalize adF true fd0 (ctTx m) = a3 at *
  generalize adF false fd0 (ntX (ptE m) (ctA m)) = a4 at *
  intro f hf
  rcases f with _ | _ | _ | _ | _ | f
  · exact h0
  · exact h1
  · exact h2
  · exact h3
  · exact h4
  · omega
theorem adF_app {pl : Bool} {v : FdV} {a b : List (List Int)} : adF pl v (a ++ b) = adF pl (adF pl v a) b := by unfold adF; rw [List.foldl_append]
theorem sumL_app {a b : List (List Int)} : sumL (a ++ b) = sumL a + sumL b := by
  induction a with
  | nil => show sumL b = 0 + sumL b; omega
  | cons x r ih => show len x + sumL (r ++ b) = len x + sumL r + sumL b; omega
theorem srT_app {a b : List Mb} : srT (a ++ b) = srT a ++ srT b := by unfold srT; rw [List.map_append]
theorem cuG_nil {most k e : Int} {w : Fs} (he : e ≤ 0) : cuG [] most e k w = w := cuG_no (fun z => by omega)
abbrev ldSc : List Int := [69, 70, 71, 121, 127, 133, 134, 136, 137, 138, 139, 140, 141, 148, 150, 153, 154, 155, 156, 157, 158, 159, 160, 161, 162, 181, 182, 185, 186, 195, 196, 197, 201, 205, 206, 207, 208, 212, 214, 216, 218, 219, 229, 230, 232]
abbrev ldAr : List Int := [52, 53, 54, 55, 56, 57, 58, 59, 60, 61, 81, 82, 83, 84, 85, 86, 87, 88, 89, 90, 91, 92, 93, 94, 100, 101, 102, 103, 121, 122, 123, 124, 125, 126, 127, 128, 129, 130, 131, 132, 133, 134, 135, 136, 137, 138, 139, 140, 141, 142, 143, 144, 145, 146, 147, 148, 149, 150, 151, 152, 153]
section WLD
variable {τ : TT} {m : List Int} {v : Int}
set_option maxHeartbeats 8000000 in
theorem t_load {Q : TT → Prop} (hv : 0 ≤ v ∧ v < 6000) (h : BYT τ v m) (hok : ldOk m) (hld : τ.1 69 = v → LDD τ m) (hQ : ∀ τ', Fr τ τ' ldSc ldAr → τ'.1 69 = v → LDD τ' m → Q τ') : w_load v τ Q := by
  obtain ⟨b1, b2, b3⟩ := h
  obtain ⟨o1, o2, o3, o4, o5, o6, o7, ⟨o8a, o8b, o8c⟩, o9, o10⟩ := hok
  have n0 := len_nn m
  have hEl := (ptE_tr (l := m)).1
  -- the places of what is read stay
  -- the entities
  have LE : ∀ (N : Nat) (e : Int) (V : Int → FdV) (n c : Int) (τ1 : TT), (lnW (ptE m) - e).toNat = N → 0 ≤ e → e ≤ lnW (ptE m) → Fr τ τ1 ldSc ldAr → τ1.1 69 = v → LNS τ1 m (lsG m 0) → ENS τ1 (lsG m 0) (ptE m) → MSK (τ1.1 195) (ctS m) → TKF τ1 V n c → 0 ≤ n → 0 ≤ c →
      n + sumL (tnL (lsG m 0) (ptE m) (fro (ctS m) e)) + sumL (ntX (ptE m) (fro (ctA m) e)) ≤ 4000 → c + ((fro (ctS m) e).length : Int) + ((fro (ctA m) e).length : Int) ≤ 4000 →
      fEq (V 0) (adF false fd0 (srT (ctFr m))) → fEq (V 1) (adF false fd0 (srT (ctTo m))) → fEq (V 2) (fdA (ctSj m) 300 false fd0) → adF true (V 3) (tnL (lsG m 0) (ptE m) (fro (ctS m) e)) = adF true fd0 (ctTx m) → adF false (V 4) (ntX (ptE m) (fro (ctA m) e)) = adF false fd0 (ntX (ptE m) (ctA m)) → W_load_154 e τ1 Q := by
    intro N
    induction N using Nat.strongRecOn with
    | ind N ih =>
      intro e V n c τ1 hN e0 e1 hF h69 hL hE hM hT hn hc hsn hsc q0 q1 q2 q3 q4
      have h60 := hE.2.1
      have hcnt : τ1.1 185 = lnW (ptE m) := hE.1
      refine s_load_154 ?_
      rw [hcnt]
      refine fun r156 => ⟨by omega, fun c159 => hQ τ1 hF h69 ⟨hL, hE, hM, V, n, c, hT, fun f hf => ?_⟩, fun c159 r163 => ?_⟩
      · have ee : e = lnW (ptE m) := by omega
        have f1 := (fro_all (ctS_sA (l := m))).2
        have f2 := (fro_all (ctA_sA (m := m))).2
        have ee2 : e = ((ptE m).length : Int) := ee
        rw [ee2, f1] at q3
        rw [ee2] at q4
        have f3 : fro (ctA m) ((ptE m).length : Int) = [] := f2
        rw [f3] at q4
        have q3 : V 3 = adF true fd0 (ctTx m) := q3
        have q4 : V 4 = adF false fd0 (ntX (ptE m) (ctA m)) := q4
        exact ctFd_at (P := fun f w => fEq (V (f : Int)) w) q0 q1 q2 (by show fEq (V 3) _; rw [q3]; exact ⟨rfl, rfl⟩) (by show fEq (V 4) _; rw [q4]; exact ⟨rfl, rfl⟩) f hf
      have he60 : 0 ≤ e ∧ e < 60 := ⟨e0, by omega⟩
      have hbit := hM.bit he60
      have hen := (hE.2.2 e e0 c159).1
      have hA' : ctA m = hgF (ptE m) (ctS m) := rfl
      -- on to the next
      have hlen : e < ((ptE m).length : Int) := c159
      by_cases hsh : e ∈ ctS m
      · refine ⟨fun c172 => absurd (hbit.mpr hsh) c172, fun _ => ?_⟩
        have hnh : e ∉ ctA m := fun z => by
          have y := (hgF_mem (E := ptE m) (sh := ctS m) ⟨e0, hlen⟩).mp z
          unfold hgP at y
          rw [Bool.and_eq_true, Bool.and_eq_true] at y
          have x := y.2.1
          rw [List.contains_iff_mem.mpr hsh] at x
          exact absurd x (by decide)
        rw [fro_y (ctS_sA (l := m)).1 hsh] at hsn hsc q3
        rw [fro_n hnh] at hsn hsc q4
        obtain ⟨-, -, k1, k2, k3, k4, k5, k6, k7, k8, k9⟩ := o3 e hsh
        have hsn : n + (len (evX (lsG m 0) (en (ptE m) e)) + sumL (tnL (lsG m 0) (ptE m) (fro (ctS m) (e + 1)))) + sumL (ntX (ptE m) (fro (ctA m) (e + 1))) ≤ 4000 := hsn
        have q3 : adF true (fdA (evX (lsG m 0) (en (ptE m) e)) 300 true (V 3)) (tnL (lsG m 0) (ptE m) (fro (ctS m) (e + 1))) = adF true fd0 (ctTx m) := q3
        have s1 := sumL_nn (tnL (lsG m 0) (ptE m) (fro (ctS m) (e + 1)))
        have s2 := sumL_nn (ntX (ptE m) (fro (ctA m) (e + 1)))
        have s3 := len_nn (evX (lsG m 0) (en (ptE m) e))
        rw [List.length_cons] at hsc
        refine t_readText hen hL (hE.aro ⟨e0, c159⟩) ⟨k1, k2⟩ k9 (fun τ2 hF2 hW2 => ?_)
        refine t_cutSource (pB := true) (f := 3) hW2 (hT.fr hF2) (by decide) ⟨hn, by omega, hc, by omega⟩ (fun τ3 hF3 hT3 => ?_)
        refine ih _ (by omega) (e + 1) _ _ _ τ3 rfl (by omega) (by omega) ((hF.tk hF2).tk hF3) ((hF3.s 69).trans ((hF2.s 69).trans h69)) ((hL.frF hF2).frF hF3) ((hE.frF hF2).frF hF3) (by rw [hF3.s 195, hF2.s 195]; exact hM) hT3 (by omega) (by omega) (by omega) (by omega) q0 q1 q2 ?_ q4
        exact q3
      · refine ⟨fun _ => ?_, fun c172 => absurd (hbit.mp c172) hsh⟩
        rw [fro_n hsh] at hsn hsc q3
        refine t_pIsHanging hE hL ⟨e0, c159⟩ hM (fun τ2 hF2 => ?_)
        have F2 : Fr τ τ2 ldSc ldAr := hF.tk hF2
        have hL2 := hL.frF hF2
        have hE2 := hE.frF hF2
        have hM2 : MSK (τ2.1 195) (ctS m) := by rw [hF2.s 195]; exact hM
        have h69b : τ2.1 69 = v := (hF2.s 69).trans h69
        have hT2 := hT.fr hF2
        by_cases hg : hgP (ptE m) (ctS m) e = true
        · rw [if_pos hg]
          have hgm : e ∈ ctA m := (hgF_mem (E := ptE m) (sh := ctS m) ⟨e0, hlen⟩).mpr hg
          rw [fro_y (ctA_sA (m := m)).1 hgm] at hsn hsc q4
          obtain ⟨-, -, k1, k2⟩ := o4 e hgm
          rw [List.length_cons] at hsc
          have s1 := sumL_nn (tnL (lsG m 0) (ptE m) (fro (ctS m) (e + 1)))
          have s2 := sumL_nn (ntX (ptE m) (fro (ctA m) (e + 1)))
          refine fun r191 => ⟨fun c194 => absurd c194 (by decide), fun _ => t_readName (hen.frF hF2) hL2 (fun τ3 hF3 hN r199 => ⟨fun _ => ?_, fun c202 => absurd rfl c202⟩) (fun τ3 hF3 hN hby hX r199 => ⟨fun c202 => absurd c202 (by decide), fun _ => ?_⟩)⟩
          · have eN : ntX (ptE m) (e :: fro (ctA m) (e + 1)) = ntX (ptE m) (fro (ctA m) (e + 1)) := if_pos hN
            rw [eN] at hsn q4
            exact ih _ (by omega) (e + 1) V n c τ3 rfl (by omega) (by omega) (F2.tk hF3) ((hF3.s 69).trans h69b) (hL2.frF hF3) (hE2.frF hF3) (by rw [hF3.s 195]; exact hM2) (hT2.fr hF3) hn hc (by omega) (by omega) q0 q1 q2 q3 q4
          · have eN' : ntX (ptE m) (e :: fro (ctA m) (e + 1)) = tfF (utf8 (enNm (evH (en (ptE m) e)))) :: ntX (ptE m) (fro (ctA m) (e + 1)) := if_neg hN
            rw [eN'] at hsn q4
            have hsn : n + sumL (tnL (lsG m 0) (ptE m) (fro (ctS m) (e + 1))) + (len (tfF (utf8 (enNm (evH (en (ptE m) e))))) + sumL (ntX (ptE m) (fro (ctA m) (e + 1)))) ≤ 4000 := hsn
            have q4 : adF false (fdA (tfF (utf8 (enNm (evH (en (ptE m) e))))) 300 false (V 4)) (ntX (ptE m) (fro (ctA m) (e + 1))) = adF false fd0 (ntX (ptE m) (ctA m)) := q4
            have hul := utf8_len _ (enNm (evH (en (ptE m) e))) (Nat.le_refl _)
            have s3 := len_nn (tfF (utf8 (enNm (evH (en (ptE m) e)))))
            refine t_takeCharacters hX (utf8_nn _ _ (Nat.le_refl _) (nnL.b hby)) (by unfold len at *; omega) (fun τ4 hF4 hW4 => ?_)
            refine t_cutSource (pB := false) (f := 4) hW4 ((hT2.fr hF3).fr hF4) (by decide) ⟨hn, by omega, hc, by omega⟩ (fun τ5 hF5 hT5 => ?_)
            refine ih _ (by omega) (e + 1) _ _ _ τ5 rfl (by omega) (by omega) (((F2.tk hF3).tk hF4).tk hF5) ((hF5.s 69).trans ((hF4.s 69).trans ((hF3.s 69).trans h69b))) (((hL2.frF hF3).frF hF4).frF hF5) (((hE2.frF hF3).frF hF4).frF hF5) (by rw [hF5.s 195, hF4.s 195, hF3.s 195]; exact hM2) hT5 (by omega) (by omega) (by omega) (by omega) q0 q1 q2 q3 ?_
            exact q4
        · rw [if_neg hg]
          have hgm : e ∉ ctA m := fun z => hg ((hgF_mem (E := ptE m) (sh := ctS m) ⟨e0, hlen⟩).mp z)
          rw [fro_n hgm] at hsn hsc q4
          exact fun r191 => ⟨fun _ => ih _ (by omega) (e + 1) V n c τ2 rfl (by omega) (by omega) F2 h69b hL2 hE2 hM2 hT2 hn hc hsn hsc q0 q1 q2 q3 q4, fun c194 => absurd rfl c194⟩
  -- the boxes and the subject
  have BX : ∀ (τ1 : TT), Fr τ τ1 ldSc ldAr → τ1.1 69 = v → LNS τ1 m (lsG m 0) → ENS τ1 (lsG m 0) (ptE m) → MSK (τ1.1 195) (ctS m) → TKF τ1 (fun _ => fd0) 0 0 → W_load_83 5 τ1 Q := fun τ1 hF1 h69 hL1 hE1 hM1 hT1 => by
    refine s_load_83 ⟨by decide, fun _ => ?_, fun c85 => absurd c85 (by decide)⟩
    refine cstC fun C => (?_ : w_cutBoxes 0 1 τ1 _)
    have hz : 0 < lnW (ptE m) := by unfold lnW; omega
    have hen := (hE1.2.2 0 (Int.le_refl 0) hz).1
    have sF := sumL_nn (srT (ctFr m))
    have sT := sumL_nn (srT (ctTo m))
    have sX := sumL_nn (ctTx m)
    have sN := sumL_nn (ntX (ptE m) (ctA m))
    have sS := len_nn (ctSj m)
    have eTo : ctTo m = mxF (vlF (evH (en (ptE m) 0)) TON) ++ mxF (vlF (evH (en (ptE m) 0)) CCN) := rfl
    have eFr : ctFr m = mxF (vlF (evH (en (ptE m) 0)) FRMN) := rfl
    have l1 : lnW (mxF (vlF (evH (en (ptE m) 0)) FRMN)) = ((ctFr m).length : Int) := rfl
    have l2 : lnW (mxF (vlF (evH (en (ptE m) 0)) TON)) + lnW (mxF (vlF (evH (en (ptE m) 0)) CCN)) = ((ctTo m).length : Int) := by rw [eTo, List.length_append]; unfold lnW; omega
    have l3 := lnW_nn (l := mxF (vlF (evH (en (ptE m) 0)) TON))
    have l4 := lnW_nn (l := mxF (vlF (evH (en (ptE m) 0)) CCN))
    have l5 := lnW_nn (l := mxF (vlF (evH (en (ptE m) 0)) FRMN))
    have sTT : sumL (srT (mxF (vlF (evH (en (ptE m) 0)) TON))) + sumL (srT (mxF (vlF (evH (en (ptE m) 0)) CCN))) = sumL (srT (ctTo m)) := by rw [eTo, srT_app, sumL_app]
    have s3 := sumL_nn (srT (mxF (vlF (evH (en (ptE m) 0)) TON)))
    have s4 := sumL_nn (srT (mxF (vlF (evH (en (ptE m) 0)) CCN)))
    have o5' : ∀ x, x ∈ mxF (vlF (evH (en (ptE m) 0)) FRMN) → mbL x ≤ 1890 := fun x hx => (o5 x hx).2
    have o6a : ∀ x, x ∈ mxF (vlF (evH (en (ptE m) 0)) TON) → mbL x ≤ 1890 := fun x hx => (o6 x (by rw [eTo]; exact List.mem_append_left _ hx)).2
    have o6b : ∀ x, x ∈ mxF (vlF (evH (en (ptE m) 0)) CCN) → mbL x ≤ 1890 := fun x hx => (o6 x (by rw [eTo]; exact List.mem_append_right _ hx)).2
    refine t_cutBoxes (n := FRMN) hen hL1 (C.wrd (by decide) (by decide) (by decide)) (ascT (by decide)) (by decide) o8a o5' (by decide) hT1 ⟨Int.le_refl 0, by rw [← eFr]; omega, Int.le_refl 0, by omega⟩ (fun τ2 hF2 hT2 => ?_)
    refine t_cutBoxes (n := TON) (hen.frF hF2) (hL1.frF hF2) ((C.wrd (by decide) (by decide) (by decide)).fr (hF2.a 2)) (ascT (by decide)) (by decide) o8b o6a (by decide) hT2 ⟨by rw [← eFr]; omega, by rw [← eFr]; omega, by omega, by omega⟩ (fun τ3 hF3 hT3 => ?_)
    refine t_cutBoxes (n := CCN) ((hen.frF hF2).frF hF3) ((hL1.frF hF2).frF hF3) (((C.wrd (by decide) (by decide) (by decide)).fr (hF2.a 3)).fr (hF3.a 3)) (ascT (by decide)) (by decide) o8c o6b (by decide) hT3 ⟨by rw [← eFr]; omega, by rw [← eFr]; omega, by omega, by omega⟩ (fun τ4 hF4 hT4 => ?_)
    have F4 : Fr τ τ4 ldSc ldAr := ((hF1.tk hF2).tk hF3).tk hF4
    have hL4 := ((hL1.frF hF2).frF hF3).frF hF4
    have hE4 := ((hE1.frF hF2).frF hF3).frF hF4
    have hM4 : MSK (τ4.1 195) (ctS m) := by rw [hF4.s 195, hF3.s 195, hF2.s 195]; exact hM1
    have h694 : τ4.1 69 = v := (hF4.s 69).trans ((hF3.s 69).trans ((hF2.s 69).trans h69))
    have hen4 := ((hen.frF hF2).frF hF3).frF hF4
    rw [upV_up, upV_at, ← adF_app, ← srT_app, ← eTo, ← eFr, show (0 : Int) + sumL (srT (ctFr m)) + sumL (srT (mxF (vlF (evH (en (ptE m) 0)) TON))) + sumL (srT (mxF (vlF (evH (en (ptE m) 0)) CCN))) = sumL (srT (ctFr m)) + sumL (srT (ctTo m)) by omega,
      show (0 : Int) + lnW (ctFr m) + lnW (mxF (vlF (evH (en (ptE m) 0)) TON)) + lnW (mxF (vlF (evH (en (ptE m) 0)) CCN)) = lnW (ctFr m) + lnW (ctTo m) by have : lnW (ctTo m) = ((ctTo m).length : Int) := rfl; omega] at hT4
    have eV : ∀ x y : FdV, upV (upV (fun _ => fd0) 0 x) 1 y = fun j => if j = 1 then y else if j = 0 then x else fd0 := fun x y => rfl
    have hT5 : TKF τ4 (fun j => if j = 1 then adF false fd0 (srT (ctTo m)) else if j = 0 then adF false fd0 (srT (ctFr m)) else fd0) (sumL (srT (ctFr m)) + sumL (srT (ctTo m))) (lnW (ctFr m) + lnW (ctTo m)) := hT4
    have lnF : lnW (ctFr m) = ((ctFr m).length : Int) := rfl
    have lnT : lnW (ctTo m) = ((ctTo m).length : Int) := rfl
    have f1 : fro (ctS m) 0 = ctS m := (fro_all (ctS_sA (l := m))).1
    have f2 : fro (ctA m) 0 = ctA m := (fro_all (ctA_sA (m := m))).1
    have eTx : tnL (lsG m 0) (ptE m) (ctS m) = ctTx m := rfl
    refine t_readSubject hen4 hL4 (fun τ5 hF5 hN r136 => ⟨fun _ => ?_, fun c139 => absurd rfl c139⟩) (fun τ5 x hF5 hN hby hxl hX r136 => ⟨fun c139 => absurd c139 (by decide), fun _ => ?_⟩)
    · have e2 : ctSj m = [] := by
        show tfF (enR (vlF (evH (en (ptE m) 0)) SUBN) 0 [] false) = []
        rw [vlF_0 hN, enR, dif_neg (fun z => absurd z.2 (by decide)), utf8.eq_1]
        rfl
      refine LE _ 0 _ _ _ τ5 rfl (Int.le_refl 0) (by omega) (F4.tk hF5) ((hF5.s 69).trans h694) (hL4.frF hF5) (hE4.frF hF5) (by rw [hF5.s 195]; exact hM4) (hT5.fr hF5) (by omega) (by omega) (by rw [f1, f2, eTx]; omega) (by rw [f1, f2]; omega) ⟨rfl, rfl⟩ ⟨rfl, rfl⟩ ?_ (by rw [f1, eTx]; rfl) (by rw [f2]; rfl)
      show ([] : List Pc) = (fdA (ctSj m) 300 false fd0).1 ∧ (0 : Int) = (fdA (ctSj m) 300 false fd0).2.2.1
      rw [e2, fdA_Q]
      have e3 : lnA [] = [] := by unfold lnA; rw [lnG, dif_neg (fun z => absurd z.2 (by decide))]; rfl
      rw [e3]; exact ⟨rfl, rfl⟩
    · have e2 : ctSj m = tfF (enR x 0 [] false) := by
        show tfF (enR (vlF (evH (en (ptE m) 0)) SUBN) 0 [] false) = _
        rw [vlF_1 hN]
      have e2l : len (ctSj m) = len (enR x 0 [] false) := by rw [e2, tfF_len]
      refine t_takeCharacters hX (enR_nn hby _ 0 [] false rfl nnL.nil) (by omega) (fun τ6 hF6 hW6 => ?_)
      rw [← e2] at hW6
      refine t_cutSource (pB := false) (f := 2) hW6 ((hT5.fr hF5).fr hF6) (by decide) ⟨by omega, by omega, by omega, by omega⟩ (fun τ7 hF7 hT7 => ?_)
      refine LE _ 0 _ _ _ τ7 rfl (Int.le_refl 0) (by omega) (((F4.tk hF5).tk hF6).tk hF7) ((hF7.s 69).trans ((hF6.s 69).trans ((hF5.s 69).trans h694))) (((hL4.frF hF5).frF hF6).frF hF7) (((hE4.frF hF5).frF hF6).frF hF7) (by rw [hF7.s 195, hF6.s 195, hF5.s 195]; exact hM4) hT7 (by omega) (by omega) (by rw [f1, f2, eTx]; omega) (by rw [f1, f2]; omega) ⟨rfl, rfl⟩ ⟨rfl, rfl⟩ ⟨rfl, rfl⟩ (by rw [f1, eTx]; rfl) (by rw [f2]; rfl)
  -- the fields are empty
  have L83 : ∀ (N : Nat) (f : Int) (τ1 : TT), (5 - f).toNat = N → 0 ≤ f → f ≤ 5 → Fr τ τ1 ldSc ldAr → τ1.1 69 = v → LNS τ1 m (lsG m 0) → ENS τ1 (lsG m 0) (ptE m) → MSK (τ1.1 195) (ctS m) → τ1.1 70 = 0 → τ1.1 71 = 0 → (∀ g, 0 ≤ g → g < f → τ1.2 60 g = 0 ∧ τ1.2 61 g = 0) → W_load_83 f τ1 Q := by
    intro N
    induction N using Nat.strongRecOn with
    | ind N ih =>
      intro f τ1 hN f0 f1 hF h69 hL hE hM h70 h71 hz
      rcases Int.lt_or_eq_of_le f1 with c | c
      · refine s_load_83 ⟨by omega, fun c85 => absurd c85 (by omega), fun c85 => ⟨by omega, ?_⟩⟩
        refine ih _ (by omega) (f + 1) _ rfl (by omega) (by omega) ((hF.pa _ _ _).pa _ _ _) h69 (hL.fr rfl rfl rfl rfl rfl) (hE.frF (((Fr.rf : Fr τ1 τ1 [] [60, 61]).pa _ _ _).pa _ _ _)) hM h70 h71 (fun g g0 g1 => ?_)
        show up (τ1.2 60) f 0 g = 0 ∧ up (τ1.2 61) f 0 g = 0
        by_cases q : g = f
        · rw [q, up_at, up_at]; exact ⟨rfl, rfl⟩
        · rw [up_ne _ q, up_ne _ q]; exact hz g g0 (by omega)
      · rw [c] at hz ⊢
        refine BX τ1 hF h69 hL hE hM ⟨⟨[], ⟨h70, h71, fun n w hn => by cases hn⟩, by decide, by decide, fun g g0 g1 => rfl⟩, fun g g0 g1 => ⟨(hz g g0 g1).1, (hz g g0 g1).2, FOK0⟩⟩
  -- the bytes
  have L26 : ∀ (N : Nat) (i : Int) (τ1 : TT), (len m - i).toNat = N → 0 ≤ i → i ≤ len m → Fr τ τ1 [69, 181] [121] → τ1.1 69 = v → τ1.1 181 = len m → (∀ j, 0 ≤ j → j < i → τ1.2 121 j % 256 = gt m j) → W_load_26 v i τ1 Q := by
    intro N
    induction N using Nat.strongRecOn with
    | ind N ih =>
      intro i τ1 hN i0 i1 hF h69 h181 hi
      refine s_load_26 ?_
      rw [h181]
      refine fun r28 => ⟨by omega, fun c31 => ?_, fun c31 => ⟨hv, fun r48 => ?_⟩⟩
      · have ei : i = len m := by omega
        rw [ei] at hi
        have hMD : MLD τ1 m := by
          refine ⟨?_, by omega, by omega⟩
          rw [h181]
          refine list_ext ?_ (fun j j0 j1 => ?_)
          · show len m = ((by8 (τ1.2 121) 0 (len m)).length : Int)
            rw [by8_len]; omega
          · rw [by8_gt j0 j1, hi j j0 j1]
        have F1 : Fr τ τ1 ldSc ldAr := Fr.rf.tk hF
        refine t_pSplit hMD (fun τ2 hF2 hL2 => t_pBuild hL2 (fun τ3 hF3 hE3 => ?_))
        have hE3 : ENS τ3 (lsG m 0) (ptE m) := hE3
        refine t_pFindTexts hE3 (hL2.frF hF3) (by unfold lnW; omega) (fun τ4 hF4 hM4 => ?_)
        have F4 : Fr τ τ4 ldSc ldAr := ((F1.tk hF2).tk hF3).tk hF4
        refine L83 _ 0 _ rfl (Int.le_refl 0) (by decide) ((F4.ps _ _).ps _ _) ?_ (((hL2.frF hF3).frF hF4).fr rfl rfl rfl rfl rfl) ((hE3.frF hF4).frF ((((Fr.rf : Fr τ4 τ4 [70, 71] []).ps 70 0)).ps 71 0)) hM4 rfl rfl (fun g g0 g1 => absurd g1 (by omega))
        show τ4.1 69 = v
        rw [hF4.s 69, hF3.s 69, hF2.s 69]; exact h69
      · rw [hF.a 36, hF.a 38]
        refine ⟨by omega, fun r51 => ⟨by omega, ih _ (by omega) (i + 1) _ rfl (by omega) (by omega) (hF.pa _ _ _) h69 h181 (fun j j0 j1 => ?_)⟩⟩
        show up (τ1.2 121) i _ j % 256 = _
        by_cases q : j = i
        · rw [q, up_at]; exact b3 i i0 c31
        · rw [up_ne _ q]; exact hi j j0 (by omega)
  refine s_load (fun r1 => ⟨by omega, fun c5 => ⟨hv, ?_⟩, fun c5 => hQ τ Fr.rf c5 (hld c5)⟩)
  rw [b1]
  exact fun r20 => L26 _ 0 _ rfl (Int.le_refl 0) n0 ((Fr.rf.ps _ _).ps _ _) rfl rfl (fun j j0 j1 => absurd j1 (by omega))
end WLD
