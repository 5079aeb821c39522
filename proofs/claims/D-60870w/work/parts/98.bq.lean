/-! the twin: a source is cut -/
set_option maxRecDepth 100000
section CUS
variable {l : List Int} {most E k e : Int} {w : Fs}
theorem cuG_no (h : ¬ (0 ≤ k ∧ k < e ∧ w.2.2 < most)) : cuG l most e k w = w := by rw [cuG, dif_neg h]
theorem cuG_w (h : 0 ≤ k ∧ k < e ∧ w.2.2 < most) (hw : chWP (atI l k)) (hr : k < roE l k w.2.1) : cuG l most e k w = cuG l most e (roE l k w.2.1) (roS l k w) := by rw [cuG, dif_pos h, if_pos hw, if_pos hr]
theorem cuG_s (h : 0 ≤ k ∧ k < e ∧ w.2.2 < most) (hw : ¬ chWP (atI l k)) : cuG l most e k w = cuG l most e (k + 1) w := by rw [cuG, dif_pos h, if_neg hw]
/-- a cut up to a line's end, then on -/
theorem cuG_split (he : rwX l E) (hE : 0 ≤ E ∧ E ≤ len l) : ∀ (N : Nat) (k : Int) (w : Fs), (E - k).toNat = N → 0 ≤ k → k ≤ E → cuG l most (len l) k w = cuG l most (len l) (E + 1) (cuG l most E k w) := by
  intro N
  induction N using Nat.strongRecOn with
  | ind N ih =>
    intro k w hN k0 k1
    by_cases hm : w.2.2 < most
    · rcases Int.lt_or_eq_of_le k1 with c | c
      · by_cases hw : chWP (atI l k)
        · have hr := ro_in (pl := w.2.1) k0 c hE.2 he hw
          rw [cuG_w ⟨k0, by omega, hm⟩ hw hr.1, cuG_w (e := E) ⟨k0, c, hm⟩ hw hr.1]
          exact ih _ (by omega) _ _ rfl (by omega) hr.2.1
        · rw [cuG_s ⟨k0, by omega, hm⟩ hw, cuG_s (e := E) ⟨k0, c, hm⟩ hw]
          exact ih _ (by omega) _ _ rfl (by omega) (by omega)
      · rw [cuG_no (e := E) (fun z => by omega)]
        subst c
        by_cases hl : k < len l
        · exact cuG_s ⟨k0, hl, hm⟩ he.1
        · rw [cuG_no (fun z => by omega), cuG_no (fun z => by omega)]
    · rw [cuG_no (fun z => hm z.2.2), cuG_no (e := E) (fun z => hm z.2.2), cuG_no (fun z => hm z.2.2)]
/-- one line's part -/
def fdQ (pl : Bool) (l : List Int) (most : Int) (w : Fs) (z : LnV × Bool × Bool) : Fs := if pl = true then fdC l most w z else cuG l most (z.1.1 + z.1.2.1) z.1.1 w
theorem cuG_ln : ∀ (N : Nat) (k : Int) (s : Bool) (w : Fs), (len l - k).toNat = N → 0 ≤ k → cuG l most (len l) k w = (lnZ l (lnG l k) s).foldl (fdQ false l most) w := by
  intro N
  induction N using Nat.strongRecOn with
  | ind N ih =>
    intro k s w hN k0
    rw [lnG]
    split
    · rename_i h
      have hx := rwX_ln h
      rw [lnZ, List.foldl_cons]
      have e1 : fdQ false l most w ((k, scn (neB 10) l k - k, dpG l (scn (neB 10) l k) k), sgN l (k, scn (neB 10) l k - k, dpG l (scn (neB 10) l k) k) s, ldN l (k, scn (neB 10) l k - k, dpG l (scn (neB 10) l k) k) (lnG l (max k (scn (neB 10) l k) + 1))) = cuG l most (scn (neB 10) l k) k w := by
        show cuG l most (k + (scn (neB 10) l k - k)) k w = _
        rw [show k + (scn (neB 10) l k - k) = scn (neB 10) l k by omega]
      rw [e1, cuG_split hx.1 ⟨by omega, hx.2.2⟩ _ k w rfl k0 hx.2.1, show max k (scn (neB 10) l k) + 1 = scn (neB 10) l k + 1 by omega]
      exact ih _ (by omega) _ _ _ rfl (by omega)
    · exact cuG_no (fun z => by omega)
def fbO (v : FdV) : Int := if v.2.2.2 = true then v.2.1 + 10 else v.2.1
theorem fdA_Q {pl : Bool} {v : FdV} : fdA l most pl v = (((lnA l).foldl (fdQ pl l most) (v.1, fbO v, v.2.2.1)).1, ((lnA l).foldl (fdQ pl l most) (v.1, fbO v, v.2.2.1)).2.1, ((lnA l).foldl (fdQ pl l most) (v.1, fbO v, v.2.2.1)).2.2, true) := by
  rw [fdA_eq]
  cases pl with
  | true =>
    rw [if_pos rfl]
    have e : fdQ true l most = fdC l most := by funext w z; unfold fdQ; rw [if_pos rfl]
    rw [e]; rfl
  | false =>
    rw [if_neg (by decide)]
    have e := cuG_ln (l := l) (most := most) _ 0 false (v.1, fbO v, v.2.2.1) rfl (Int.le_refl 0)
    unfold lnA
    rw [← e]; rfl
end CUS
def upV (V : Int → FdV) (f : Int) (v : FdV) : Int → FdV := fun j => if j = f then v else V j
/-- fields that took n characters in c sources -/
def TKF (τ : TT) (V : Int → FdV) (n c : Int) : Prop := (∃ ts, TKS τ ts ∧ (ts.length : Int) ≤ 2 * n ∧ ltS ts ≤ 3 * n ∧ ∀ g, 0 ≤ g → g < 5 → flP g ts = (V g).1) ∧ ∀ g, 0 ≤ g → g < 5 → τ.2 60 g = fbO (V g) ∧ τ.2 61 g = (V g).2.2.1 ∧ FOK (V g) n c
theorem TKF.fr {τ τ' : TT} {V : Int → FdV} {n c : Int} {sc ar : List Int} (h : TKF τ V n c) (hF : Fr τ τ' sc ar) (h1 : ([70, 71].all fun k => !(sc.contains k)) = true := by rfl) (h2 : ([52, 53, 54, 55, 56, 57, 58, 59, 60, 61].all fun k => !(ar.contains k)) = true := by rfl) : TKF τ' V n c := by
  have a : ∀ k, k ∈ ([52, 53, 54, 55, 56, 57, 58, 59, 60, 61] : List Int) → τ'.2 k = τ.2 k := fun k hk => hF.a k (by have := List.all_eq_true.mp h2 k hk; simpa using this)
  obtain ⟨⟨ts, b1, b2⟩, b3⟩ := h
  refine ⟨⟨ts, b1.fr hF h1 (List.all_eq_true.mpr (fun k hk => List.all_eq_true.mp h2 k (by simp at hk ⊢; omega))), b2⟩, fun g g0 g1 => ?_⟩
  rw [a 60 (by decide), a 61 (by decide)]
  exact b3 g g0 g1
theorem FOK.mo {v : FdV} {n c n' c' : Int} (h : FOK v n c) (hn : n ≤ n') (hc : c ≤ c') : FOK v n' c' := ⟨by have := h.1; omega, ⟨h.2.1.1, by have := h.2.1.2; omega⟩, ⟨h.2.2.1.1, by have := h.2.2.1.2; omega⟩, h.2.2.2⟩
theorem b2i_or : ∀ b : Bool, (b2i b = 1 ∧ b = true) ∨ (b2i b = 0 ∧ b = false)
  | true => Or.inl ⟨rfl, rfl⟩
  | false => Or.inr ⟨rfl, rfl⟩
section WCS
variable {τ : TT} {l : List Int} {f n c : Int} {V : Int → FdV} {pB : Bool}
theorem t_cutSource {Q : TT → Prop} (h : WTX τ l) (hT : TKF τ V n c) (hf : 0 ≤ f ∧ f < 5) (hb : 0 ≤ n ∧ n + len l ≤ 4000 ∧ 0 ≤ c ∧ c ≤ 4000)
    (hQ : ∀ τ', Fr τ τ' [70, 71, 219, 232] [52, 53, 54, 55, 56, 57, 58, 59, 60, 61, 144, 145, 146, 147, 148, 149, 150, 151, 152, 153] → TKF τ' (upV V f (fdA l 300 pB (V f))) (n + len l) (c + 1) → Q τ') : w_cutSource f (b2i pB) τ Q := by
  have hs := h.2.1
  have hnl := h.ln
  have n0 := len_nn l
  have hpB : (b2i pB = 1 ∧ pB = true) ∨ (b2i pB = 0 ∧ pB = false) := b2i_or pB
  have hFO := (hT.2 f hf.1 hf.2).2.2
  have hfb : 0 ≤ fbO (V f) ∧ fbO (V f) ≤ n + 10 * c + 10 := by
    obtain ⟨-, ⟨y1, y2⟩, -⟩ := hFO
    unfold fbO
    split <;> omega
  have hFA : FOK (fdA l 300 pB (V f)) (n + len l) (c + 1) := hFO.add
  rw [fdA_Q] at hQ hFA
  refine s_cutSource (t_wLookAtLines h (fun τ0 hF0 hLN => ?_))
  obtain ⟨⟨ts0, t1, t2, t3, t4⟩, t5⟩ := hT
  generalize hT0 : (lnA l).foldl (fdQ pB l 300) ((V f).1, fbO (V f), (V f).2.2.1) = T at hQ hFA
  obtain ⟨hln, hzs⟩ := hLN
  -- what holds on the way
  have INV : ∃ INV : TT → Fs → Int → Int → Prop, INV = fun τ1 w nn k => Fr τ0 τ1 [70, 71, 232] [52, 53, 54, 55, 56, 57, 58, 59, 61, 149, 150, 151, 152, 153] ∧ (∃ ts, TKS τ1 ts ∧ (ts.length : Int) ≤ 2 * (n + k) ∧ ltS ts ≤ 3 * (n + k) ∧ ∀ g, 0 ≤ g → g < 5 → flP g ts = if g = f then w.1 else (V g).1) ∧ τ1.2 61 f = w.2.2 ∧ (∀ g, 0 ≤ g → g < 5 → g ≠ f → τ1.2 61 g = (V g).2.2.1) ∧ w.2.1 = fbO (V f) + nn ∧ (0 ≤ nn ∧ nn ≤ k) ∧ (0 ≤ w.2.2 ∧ w.2.2 ≤ n + k) := ⟨_, rfl⟩
  obtain ⟨INV, hINV⟩ := INV
  have IMO : ∀ τ1 w nn k k', INV τ1 w nn k → k ≤ k' → INV τ1 w nn k' := fun τ1 w nn k k' z hk => by
    rw [hINV] at z ⊢

    obtain ⟨y1, ⟨ts, y2, y3, y4, y5⟩, y6, y7, y8, y9, y10⟩ := z
    exact ⟨y1, ⟨ts, y2, by omega, by omega, y5⟩, y6, y7, y8, by omega, by omega⟩
  have hF0' : Fr τ τ0 [70, 71, 219, 232] [52, 53, 54, 55, 56, 57, 58, 59, 60, 61, 144, 145, 146, 147, 148, 149, 150, 151, 152, 153] := Fr.rf.tr hF0
  have I0 : INV τ0 ((V f).1, fbO (V f), (V f).2.2.1) 0 0 := by
    rw [hINV]
    refine ⟨Fr.rf, ⟨ts0, t1.fr hF0, by omega, by omega, fun g g0 g1 => ?_⟩, ?_, fun g g0 g1 gn => ?_, ?_, by omega, ?_⟩
    · by_cases q : g = f
      · rw [if_pos q, q]; exact t4 f hf.1 hf.2
      · rw [if_neg q]; exact t4 g g0 g1
    · rw [hF0.a 61]; exact (t5 f hf.1 hf.2).2.1
    · rw [hF0.a 61]; exact (t5 g g0 g1).2.1
    · show fbO (V f) = fbO (V f) + 0; omega
    · obtain ⟨-, -, ⟨y1, y2⟩, -⟩ := hFO
      exact ⟨y1, by show (V f).2.2.1 ≤ n + 0; omega⟩
  -- one line
  have LI : ∀ (i : Int) (U : Fs) (E : Int), 0 ≤ E → E ≤ len l → rwX l E → (∀ τ2 n2, INV τ2 U n2 E → W_cutSource_9 f (b2i pB) n2 (i + 1) τ2 Q) → (0 ≤ i ∧ i ≤ 2001) → ∀ (N : Nat) (k : Int) (nn : Int) (w : Fs) (τ1 : TT), (E - k).toNat = N → 0 ≤ k → k ≤ E → INV τ1 w nn k → cuG l 300 E k w = U → W_cutSource_81 f (b2i pB) nn i E k τ1 Q := by
    intro i U E E0 E1 hE hGo hi N
    induction N using Nat.strongRecOn with
    | ind N ih =>
      intro k nn w τ1 hN k0 k1 hI hU
      have hI' := hI
      rw [hINV] at hI
      obtain ⟨hF, ⟨ts, y2, y3, y4, y5⟩, y6, y7, y8, y9, y10⟩ := hI
      have hW : WTX τ1 l := h.fr ((hF.s 216).trans (hF0.s 216)) ((hF.a 142).trans (hF0.a 142))
      have STOP : U = w → W_cutSource_9 f (b2i pB) nn (i + 1) τ1 Q := fun z => hGo τ1 nn (by rw [z]; exact IMO _ _ _ _ _ hI' k1)
      refine s_cutSource_81 ⟨by omega, by omega, fun c85 => STOP ?_, fun c85 => ⟨hf, fun r93 => ?_⟩⟩
      · rw [← hU]; exact cuG_no (fun z => by omega)
      rw [y6]
      refine ⟨fun c97 => STOP ?_, fun c97 => ⟨by omega, fun r106 => ?_⟩⟩
      · rw [← hU]; exact cuG_no (fun z => by omega)
      have hkl : 0 ≤ k ∧ k < len l := ⟨k0, by omega⟩
      have hg := hW.ch hkl
      have hat : atI l k = gt l k := if_pos hkl
      rw [hW.rd hkl]
      refine t_wIsWord (by omega) (fun hp r107 => ⟨fun _ => ?_, fun c0 => absurd c0 (by decide)⟩) (fun hp r107 => ⟨fun c0 => absurd rfl c0, fun _ => ?_⟩)
      · have hr := ro_in (pl := w.2.1) k0 c85 E1 hE (by rw [hat]; exact hp)
        rw [cuG_w ⟨k0, c85, c97⟩ (by rw [hat]; exact hp) hr.1] at hU
        have hrl := roP_L (l := l) (f := f) (k := k) (pl := w.2.1) k0 hkl.2 hp
        refine t_wRowEnd (pl := w.2.1) hW ⟨k0, c85, E1⟩ hE hp (fun r124 => ?_)
        have e60 : τ1.2 60 f = fbO (V f) := by rw [hF.a 60, hF0.a 60]; exact (t5 f hf.1 hf.2).1
        rw [e60]
        refine fun r141 => ?_
        rw [show fbO (V f) + nn = w.2.1 from y8.symm]
        refine t_cutRow hW y2 hkl hp rfl hf ⟨by omega, by omega⟩ (by rw [y6]; omega) ?_ (fun τ2 hF2 hTK e61 r144 => ?_)
        · rw [List.length_append, List.length_map, ltS_app]
          omega
        refine ih _ (by omega) (roE l k w.2.1) (nn + roN l k w.2.1) (roS l k w) τ2 rfl (by omega) hr.2.1 ?_ hU
        rw [hINV]
        refine ⟨hF.tr hF2, ⟨_, hTK, ?_, ?_, fun g g0 g1 => ?_⟩, ?_, fun g g0 g1 gn => ?_, ?_, by omega, ?_⟩
        · rw [List.length_append, List.length_map]; omega
        · rw [ltS_app]; omega
        · rw [flP_app, y5 g g0 g1]
          by_cases q : g = f
          · rw [if_pos q, if_pos q, if_pos q]; rfl
          · rw [if_neg q, if_neg q, if_neg q, List.append_nil]
        · rw [e61, up_at, y6]; rfl
        · rw [e61, up_ne _ gn]; exact y7 g g0 g1 gn
        · show w.2.1 + roN l k w.2.1 = fbO (V f) + (nn + roN l k w.2.1); omega
        · show 0 ≤ w.2.2 + roN l k w.2.1 ∧ w.2.2 + roN l k w.2.1 ≤ n + roE l k w.2.1
          omega
      · rw [cuG_s ⟨k0, c85, c97⟩ (by rw [hat]; exact hp)] at hU
        exact ih _ (by omega) (k + 1) nn w τ1 rfl (by omega) (by omega) (IMO _ _ _ _ _ hI' (by omega)) hU
  -- all lines
  have LN : ∀ (N : Nat) (k i : Int) (s : Bool) (nn : Int) (w : Fs) (τ1 : TT), (len l - k).toNat = N → 0 ≤ k → k ≤ len l + 1 → 0 ≤ i → i ≤ k → (lnA l).drop i.toNat = lnZ l (lnG l k) s → INV τ1 w nn (min k (len l)) → (lnZ l (lnG l k) s).foldl (fdQ pB l 300) w = T → W_cutSource_9 f (b2i pB) nn i τ1 Q := by
    intro N
    induction N using Nat.strongRecOn with
    | ind N ih =>
      intro k i s nn w τ1 hN k0 k1 i0 i1 hD hI hTw
      have hI' := hI
      rw [hINV] at hI
      obtain ⟨hF, ⟨ts, y2, y3, y4, y5⟩, y6, y7, y8, y9, y10⟩ := hI
      have hL : lnW (lnA l) = τ1.1 219 := hln.trans (hF.s 219).symm
      have hLL : lnW (lnA l) = ((lnA l).length : Int) := rfl
      refine s_cutSource_9 ?_
      rw [← hL]
      by_cases hk : 0 ≤ k ∧ k < len l
      rotate_left
      · have e0 : lnG l k = [] := by rw [lnG, dif_neg hk]
        rw [e0] at hD hTw
        have hTw : w = T := hTw
        have hD : (lnA l).drop i.toNat = [] := hD
        have hle : (lnA l).length ≤ i.toNat := List.drop_eq_nil_iff.mp hD
        have e60 : τ1.2 60 f = fbO (V f) := by rw [hF.a 60, hF0.a 60]; exact (t5 f hf.1 hf.2).1
        rw [e60]
        refine fun r12 => ⟨by omega, fun c15 => ⟨hf, fun r168 => ⟨by omega, hQ _ ((hF0'.tr hF).pa _ _ _) ?_⟩⟩, fun c15 => absurd c15 (by omega)⟩
        refine ⟨⟨ts, y2.fr (Fr.rf.pa _ _ _ : Fr τ1 _ [] [60]), by omega, by omega, fun g g0 g1 => ?_⟩, fun g g0 g1 => ?_⟩
        · rw [y5 g g0 g1]
          unfold upV
          by_cases q : g = f
          · rw [if_pos q, if_pos q, hTw]
          · rw [if_neg q, if_neg q]
        · show up (τ1.2 60) f _ g = _ ∧ τ1.2 61 g = _ ∧ _
          unfold upV
          by_cases q : g = f
          · rw [if_pos q, q, up_at, y6, ← hTw]
            refine ⟨?_, rfl, by rw [hTw]; exact hFA⟩
            show _ = w.2.1 + 10
            omega
          · rw [if_neg q, up_ne _ q, hF.a 60, hF0.a 60, y7 g g0 g1 q]
            exact ⟨(t5 g g0 g1).1, rfl, (t5 g g0 g1).2.2.mo (by omega) (by omega)⟩
      · have hx := rwX_ln hk
        rw [lnG, dif_pos hk, lnZ] at hD hTw
        rw [List.foldl_cons] at hTw
        generalize hz : ((k, scn (neB 10) l k - k, dpG l (scn (neB 10) l k) k), sgN l (k, scn (neB 10) l k - k, dpG l (scn (neB 10) l k) k) s, ldN l (k, scn (neB 10) l k - k, dpG l (scn (neB 10) l k) k) (lnG l (max k (scn (neB 10) l k) + 1))) = z at hD hTw
        have z1 : z.1.1 = k := by rw [← hz]
        have z2 : z.1.2.1 = scn (neB 10) l k - k := by rw [← hz]
        have z3 : 0 ≤ z.1.2.2 := by rw [← hz]; exact (dpG_in _ k rfl).1
        have hlt : i.toNat < (lnA l).length := Classical.byContradiction fun y => by rw [List.drop_eq_nil_iff.mpr (by omega)] at hD; cases hD
        have hzi : (lnA l)[i.toNat]? = some z := by
          have y := List.drop_eq_getElem_cons hlt
          rw [hD] at y
          rw [List.getElem?_eq_getElem hlt]
          injection y with y1 y2
          rw [← y1]
        have hnx : (lnA l).drop (i + 1).toNat = lnZ l (lnG l (max k (scn (neB 10) l k) + 1)) (sgN l (k, scn (neB 10) l k - k, dpG l (scn (neB 10) l k) k) s) := by
          rw [show (i + 1).toNat = i.toNat + 1 by omega, ← List.drop_drop, hD]; rfl
        obtain ⟨⟨w1, w2, w3, w4⟩, w5⟩ := hzs _ z hzi
        rw [show ((i.toNat : Nat) : Int) = i by omega] at w1 w2 w3 w4 w5
        rw [show max k (scn (neB 10) l k) + 1 = scn (neB 10) l k + 1 by omega] at hnx hTw
        have GO : ∀ (w' : Fs) (nn' : Int) (τ2 : TT), INV τ2 w' nn' (scn (neB 10) l k) → (lnZ l (lnG l (scn (neB 10) l k + 1)) (sgN l (k, scn (neB 10) l k - k, dpG l (scn (neB 10) l k) k) s)).foldl (fdQ pB l 300) w' = T → W_cutSource_9 f (b2i pB) nn' (i + 1) τ2 Q := fun w' nn' τ2 hI2 hT2 =>
          ih _ (by omega) (scn (neB 10) l k + 1) (i + 1) _ nn' w' τ2 rfl (by omega) (by omega) (by omega) (by omega) hnx (IMO _ _ _ _ _ hI2 (by omega)) hT2
        have DO : fdQ pB l 300 w z = cuG l 300 (scn (neB 10) l k) k w → W_cutSource_55 f (b2i pB) nn i τ1 Q := fun y => by
          refine s_cutSource_55 ⟨by omega, ?_⟩
          rw [hF.a 144, hF.a 145, w1, w2, z1, z2]
          refine fun r61 r68 r78 => ?_
          rw [show k + (scn (neB 10) l k - k) = scn (neB 10) l k by omega]
          refine LI i _ _ (by omega) hx.2.2 hx.1 (fun τ2 n2 hI2 => GO _ n2 τ2 hI2 hTw) ⟨i0, by omega⟩ _ k nn w τ1 rfl k0 hx.2.1 ?_ y.symm
          rw [show min k (len l) = k by omega] at hI'
          exact hI'
        have SK : fdQ pB l 300 w z = w → W_cutSource_9 f (b2i pB) nn (i + 1) τ1 Q := fun y => GO w nn τ1 (IMO _ _ _ _ _ hI' (by omega)) (by rw [← y]; exact hTw)
        have hfq : ∀ y : pB = true, fdQ pB l 300 w z = if z.1.2.2 = 0 ∧ z.2.1 = false ∧ z.2.2 = false then cuG l 300 (scn (neB 10) l k) k w else w := fun y => by
          unfold fdQ fdC
          rw [if_pos y, z1, z2, show k + (scn (neB 10) l k - k) = scn (neB 10) l k by omega]
        refine fun r12 => ⟨by omega, fun c15 => absurd c15 (by omega), fun c15 => ⟨by omega, fun c19 => DO ?_, fun c19 => ⟨by omega, ?_⟩⟩⟩
        · rcases hpB with y | y
          · omega
          · unfold fdQ
            rw [y.2, if_neg (by decide), z1, z2, show k + (scn (neB 10) l k - k) = scn (neB 10) l k by omega]
        have hpT : pB = true := by
          rcases hpB with y | y
          · exact y.2
          · omega
        rw [hF.a 146, hF.a 147, hF.a 148, w3, w4, w5]
        refine fun r28 => ⟨fun c29 => SK ?_, fun c29 r38 => ⟨fun c39 => SK ?_, fun c39 r48 => ⟨fun c49 => DO ?_, fun c49 => SK ?_⟩⟩⟩
        · rw [hfq hpT, if_neg (fun y => by omega)]
        · rw [hfq hpT, if_neg (fun y => c39 (by rw [y.2.1]; rfl))]
        · have b1 : z.2.1 = false := by
            cases hb : z.2.1 with
            | false => rfl
            | true => rw [hb] at c39; exact absurd c39 (by decide)
          have b2 : z.2.2 = false := by
            cases hb : z.2.2 with
            | false => rfl
            | true => rw [hb] at c49; exact absurd c49 (by decide)
          rw [hfq hpT, if_pos ⟨by omega, b1, b2⟩]
        · rw [hfq hpT, if_neg (fun y => c49 (by rw [y.2.2]; rfl))]
  refine LN _ 0 0 false 0 ((V f).1, fbO (V f), (V f).2.2.1) τ0 rfl (Int.le_refl 0) (by omega) (Int.le_refl 0) (Int.le_refl 0) rfl ?_ hT0
  rw [show min 0 (len l) = 0 by omega]
  exact I0
end WCS
