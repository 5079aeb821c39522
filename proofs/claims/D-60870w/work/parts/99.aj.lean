/-! the twin: a query is read -/
set_option maxRecDepth 100000
abbrev psS : List Int := [264, 265, 266, 270, 271, 272, 273, 274, 275, 276, 277, 286, 291, 292, 293, 297, 298, 299, 300]
abbrev psA : List Int := [180, 181, 182, 183, 184, 185, 186, 187, 188, 189, 190, 191, 192]
def PSB (τ0 : TT) (l : List Int) (τ : TT) (as : List Ato) (D : List Den) (ops : List Int) (vs : List Den) (opn : Int) : Prop := Fr τ0 τ psS psA ∧ QTX τ l ∧ ATS τ l as ∧ NDS τ as D ∧ VLQ τ D vs ∧ WTQ τ ops ∧ τ.1 277 = lnW as ∧ τ.1 293 = opn ∧ ∀ d, d ∈ vs → wfD d
def BDQ (s : Int) (as : List Ato) (D : List Den) (ops : List Int) (vs : List Den) (opn sl : Int) : Prop := 3 * (lnW D + lnW ops) ≤ s + 6 * lnW as + 3 * opn + sl ∧ lnW vs ≤ lnW as ∧ lnW as ≤ 40 ∧ 0 ≤ opn ∧ opn ≤ 20
def WRDQ (l : List Int) (τ : TT) (s : Int) : Prop := ((nxQ l s).1 ≠ -9 ∧ τ.1 265 = 0 ∧ τ.1 270 = (nxQ l s).1 ∧ τ.1 271 = s ∧ τ.1 264 = (nxQ l s).2.2 ∧ ((nxQ l s).1 = 7 → τ.1 272 = (nxQ l s).2.1)) ∨ ((nxQ l s).1 = -9 ∧ τ.1 265 = 2 ∧ τ.1 266 = s)
def PSQ (τ0 : TT) (l : List Int) (τ : TT) (s : Int) (as : List Ato) (D : List Den) (ops : List Int) (vs : List Den) (opn sl : Int) : Prop := ((0 ≤ s ∧ s ≤ len l) ∧ len l ≤ 1300) ∧ PSB τ0 l τ as D ops vs opn ∧ BDQ s as D ops vs opn sl ∧ WRDQ l τ s
/-- where a fault leads -/
def HXq (τ0 : TT) (Q : TT → Prop) (R : PRes) : Prop := R.1.1 ≠ 0 → ∀ τ', Fr τ0 τ' psS psA → τ'.1 265 = R.1.1 → τ'.1 266 = R.1.2 → Q τ'
/-- the next word is read as an operand's beginning -/
def H0q (l : List Int) (τ : TT) (s : Int) (Q : TT → Prop) : Prop := (((nxQ l s).1 = -9 ∨ (nxQ l s).1 = 0) → W_qReadAll_71 0 τ Q) ∧ ((nxQ l s).1 ≠ -9 → (nxQ l s).1 ≠ 0 → ∀ K : Int → TT → Prop, (∀ x τ', (x = 0 ∨ x = 1) → W_qReadAll_100 x τ' Q → K x τ') → w_qOperand τ K)
section QPS
variable {τ0 τ : TT} {l : List Int} {as : List Ato} {D vs V : List Den} {ops O : List Int} {Q : TT → Prop} {s k x opn sl : Int} {R : PRes}
theorem flt71 (h : τ.1 265 ≠ 0) (hq : Q τ) (hx : x = 0 ∨ x = 1) : W_qReadAll_71 x τ Q :=
  s_qReadAll_71 (fun r72 => ⟨fun _ => s_qReadAll_115 (fun r116 => ⟨fun _ => s_qReadAll_142 (fun r143 => ⟨fun _ => hq, fun c => absurd c h⟩), fun c => absurd c h⟩), fun c => absurd c h⟩)
theorem flt100 (h : τ.1 265 ≠ 0) (hq : Q τ) (hx : x = 0 ∨ x = 1) : W_qReadAll_100 x τ Q :=
  s_qReadAll_100 (fun r102 => ⟨fun _ => flt71 h hq hx, fun c => absurd c h⟩)
theorem PSB.fr {τ' : TT} {sc ar : List Int} (h : PSB τ0 l τ as D ops vs opn) (hF : Fr τ τ' sc ar) (h1 : ([263, 276, 277, 286, 291, 292, 293].all fun k => !sc.contains k) = true := by rfl) (h2 : ([178, 180, 181, 182, 183, 184, 185, 186, 187, 188, 189, 190, 191, 192].all fun k => !ar.contains k) = true := by rfl) (h3 : (sc.all fun k => psS.contains k) = true := by rfl) (h4 : (ar.all fun k => psA.contains k) = true := by rfl) : PSB τ0 l τ' as D ops vs opn := by
  obtain ⟨a1, a2, a3, a4, a5, a6, a7, a8, a9⟩ := h
  have S : ∀ k, k ∈ ([263, 276, 277, 286, 291, 292, 293] : List Int) → sc.contains k = false := fun k hk => by have := List.all_eq_true.mp h1 k hk; simpa using this
  have A : ∀ k, k ∈ ([178, 180, 181, 182, 183, 184, 185, 186, 187, 188, 189, 190, 191, 192] : List Int) → ar.contains k = false := fun k hk => by have := List.all_eq_true.mp h2 k hk; simpa using this
  have AL : ∀ L : List Int, (∀ k, k ∈ L → k ∈ ([178, 180, 181, 182, 183, 184, 185, 186, 187, 188, 189, 190, 191, 192] : List Int)) → (L.all fun k => !ar.contains k) = true := fun L hL => List.all_eq_true.mpr (fun k hk => List.all_eq_true.mp h2 k (hL k hk))
  exact ⟨a1.tr hF h3 h4, a2.fr (hF.s 263 (S 263 (by decide))) (hF.a 178 (A 178 (by decide))), a3.fr hF (S 276 (by decide)) (AL _ (by decide)), a4.fr hF (S 286 (by decide)) (AL _ (by decide)), a5.fr hF (S 291 (by decide)) (A 191 (by decide)), a6.fr hF (S 292 (by decide)) (A 192 (by decide)), (hF.s 277 (S 277 (by decide))).trans a7, (hF.s 293 (S 293 (by decide))).trans a8, a9⟩
theorem BDQ.r (h : BDQ s as D ops vs opn sl) (hs : s ≤ 1300) (h3 : sl ≤ 3) : lnW D + lnW ops < 600 ∧ 0 ≤ lnW D ∧ 0 ≤ lnW ops ∧ 0 ≤ lnW as ∧ 0 ≤ lnW vs ∧ lnW vs ≤ 40 ∧ lnW as ≤ 40 := by
  obtain ⟨h1, h2, h4, h5, h6⟩ := h
  have := lnW_nn (l := D)
  have := lnW_nn (l := ops)
  have := lnW_nn (l := as)
  have := lnW_nn (l := vs)
  omega
theorem nx100 (hl : len l ≤ 1300) (h : PSB τ0 l τ as D ops vs opn) (h264 : τ.1 264 = k) (h265 : τ.1 265 = 0) (hk : 0 ≤ k ∧ k ≤ len l) (hb : BDQ k as D ops vs opn sl) (hx : x = 0 ∨ x = 1) (hgo : ∀ τ', PSQ τ0 l τ' (skQ l k) as D ops vs opn sl → W_qReadAll_71 x τ' Q) : W_qReadAll_100 x τ Q := by
  have hsk := skQ_in (l := l) _ k rfl hk.1 hk.2
  have hb' : BDQ (skQ l k) as D ops vs opn sl := ⟨by have := hb.1; omega, hb.2⟩
  refine s_qReadAll_100 (fun r102 => ⟨fun c => absurd h265 c, fun _ => t_qNext h.2.1 h264 hk h265 (fun τ1 hF1 a1 a2 a3 a4 a5 => hgo τ1 ⟨⟨⟨by omega, by omega⟩, hl⟩, h.fr hF1, hb', Or.inl ⟨a1, (hF1.s 265).trans h265, a2, a3, a4, a5⟩⟩) (fun τ1 hF1 a1 a2 a3 => hgo τ1 ⟨⟨⟨by omega, by omega⟩, hl⟩, h.fr hF1, hb', Or.inr ⟨a1, a2, a3⟩⟩)⟩)
theorem h0_71 (h : PSQ τ0 l τ s as D ops vs opn sl) (h0 : H0q l τ s Q) : W_qReadAll_71 0 τ Q := by
  by_cases c : (nxQ l s).1 = -9 ∨ (nxQ l s).1 = 0
  · exact h0.1 c
  have c1 : (nxQ l s).1 ≠ -9 := fun z => c (Or.inl z)
  have c2 : (nxQ l s).1 ≠ 0 := fun z => c (Or.inr z)
  rcases h.2.2.2 with ⟨b1, b2, b3, b4, b5, b6⟩ | ⟨b1, -⟩
  · refine s_qReadAll_71 (fun r72 => ⟨fun z => absurd b2 z, fun _ => ?_⟩)
    rw [b3]
    exact fun r79 => ⟨fun z => absurd z c2, fun _ => ⟨by decide, fun _ => h0.2 c1 c2 _ (fun x τ' _ h _ => h), fun z => absurd rfl z⟩⟩
  · exact absurd b1 c1
/-- the text ends where it may not -/
theorem end_bad (h : PSQ τ0 l τ s as D ops vs opn sl) (hs : s = len l) (hx : x = 0 ∨ (x = 1 ∧ 0 < opn)) (hX : ∀ τ', Fr τ0 τ' psS psA → τ'.1 265 = 1 → τ'.1 266 = s → Q τ') : W_qReadAll_71 x τ Q := by
  have e : nxQ l s = (0, 0, s) := by unfold nxQ; rw [if_pos (by omega)]
  obtain ⟨⟨hs1, hl⟩, ⟨a1, a2, a3, a4, a5, a6, a7, a8, a9⟩, hb, hw⟩ := h
  rw [WRDQ, e] at hw
  rcases hw with ⟨b1, b2, b3, b4, b5, b6⟩ | ⟨b1, -⟩
  rotate_left
  · exact absurd b1 (show ¬ (0 : Int) = -9 by decide)
  have hn := a2.ln
  have E133 : W_qReadAll_133 τ Q := by
    refine s_qReadAll_133 ?_
    rw [← hn]
    refine fun r136 => t_qFail b2 (by decide) (by omega) (fun τ1 hF1 g1 g2 => s_qReadAll_142 (fun r143 => ⟨fun _ => hX τ1 (a1.tr hF1) g1 (by rw [g2, hs]), fun c => absurd c (by omega)⟩))
  refine s_qReadAll_71 (fun r72 => ⟨fun z => absurd b2 z, fun _ => ?_⟩)
  rw [b3]
  refine fun r79 => ⟨fun _ => s_qReadAll_115 (fun r116 => ⟨fun z => absurd b2 z, fun _ => ⟨by omega, fun _ => E133, fun c123 => ?_⟩⟩), fun z => absurd rfl z⟩
  rw [a8]
  exact fun r127 => ⟨fun c130 => by omega, fun _ => E133⟩
/-- no operand begins here -/
theorem op_bad (h : PSQ τ0 l τ s as D ops vs opn sl) (hk : (nxQ l s).1 = 1 ∨ (nxQ l s).1 = 2 ∨ (nxQ l s).1 = 3 ∨ (nxQ l s).1 = 6) (hX : ∀ τ', Fr τ0 τ' psS psA → τ'.1 265 = 1 → τ'.1 266 = s → Q τ') : ∀ K : Int → TT → Prop, (∀ x τ', (x = 0 ∨ x = 1) → W_qReadAll_100 x τ' Q → K x τ') → w_qOperand τ K := by
  intro K hKK
  obtain ⟨⟨hs1, hl⟩, ⟨a1, a2, a3, a4, a5, a6, a7, a8, a9⟩, hb, hw⟩ := h
  rcases hw with ⟨b1, b2, b3, b4, b5, b6⟩ | ⟨b1, -⟩
  · refine s_qOperand ?_
    rw [b3, b4]
    refine fun r1 => ⟨fun c5 => ⟨fun c20 => ⟨fun c64 r76 => t_qFail b2 (by decide) (by omega) (fun τ1 hF1 g1 g2 => hKK _ _ (Or.inl rfl) (flt100 (by omega) (hX τ1 (a1.tr hF1) g1 g2) (Or.inl rfl))), fun c64 => by omega⟩, fun c20 => by omega⟩, fun c5 => by omega⟩
  · omega
def ST0 (τ0 : TT) (l : List Int) (Q : TT → Prop) (N : Nat) : Prop := ∀ (deep c k : Int) (n : Nat) (T : Den) (as : List Ato) (D : List Den) (O : List Int) (V : List Den) (τ1 : TT), 0 ≤ k → k ≤ len l → PSQ τ0 l τ1 (skQ l k) as D (List.replicate n 4 ++ O) V deep 3 → lnW as = c → ∀ R : PRes, qS l N 0 deep T n k c = R → R.1.1 ≠ 99 → HXq τ0 Q R →
  (R.1.1 = 0 → ∀ (τ' : TT) (as' : List Ato) (D' : List Den) (j : Nat) (W : Den), PSQ τ0 l τ' (skQ l R.2.2.1) as' D' (List.replicate j 4 ++ O) (W :: V) deep 0 → lnW as' = R.2.2.2.1 → eqD (ntD j W) R.2.1 → wfD R.2.1 → (0 ≤ R.2.2.1 ∧ R.2.2.1 ≤ len l) → W_qReadAll_71 1 τ' Q) → H0q l τ1 (skQ l k) Q
def ST1 (τ0 : TT) (l : List Int) (Q : TT → Prop) (N : Nat) : Prop := ∀ (deep c k : Int) (T : Den) (as : List Ato) (D : List Den) (O : List Int) (V : List Den) (τ1 : TT), sgQ l k 40 = true → 0 ≤ k → skQ l k = k → PSQ τ0 l τ1 k as D O V deep 3 → lnW as = c → ∀ R : PRes, qS l N 1 deep T 0 k c = R → R.1.1 ≠ 99 → HXq τ0 Q R →
  (R.1.1 = 0 → ∀ (τ' : TT) (as' : List Ato) (D' : List Den) (W : Den), PSQ τ0 l τ' (skQ l R.2.2.1) as' D' O (W :: V) deep 0 → lnW as' = R.2.2.2.1 → eqD W R.2.1 → wfD R.2.1 → (0 ≤ R.2.2.1 ∧ R.2.2.1 ≤ len l) → W_qReadAll_71 1 τ' Q) → ∀ K : Int → TT → Prop, (∀ x τ', (x = 0 ∨ x = 1) → W_qReadAll_100 x τ' Q → K x τ') → w_qOperand τ1 K
def lvQ (m f : Int) : Prop := (m = -3 ∧ f = 3) ∨ (m = -5 ∧ f = 2) ∨ (m = -4 ∧ f = 1)
def gx (l : List Int) (m k : Int) : Prop := goF l k (-3) = false ∧ (m ≠ -3 → goF l k (-5) = false) ∧ (m = -4 → goF l k (-4) = false)
def gi (l : List Int) (m k : Int) : Prop := (m ≠ -3 → goF l k (-3) = false) ∧ (m = -4 → goF l k (-5) = false)
/-- what follows a level -/
def KLV (τ0 : TT) (l : List Int) (Q : TT → Prop) (m f deep : Int) (O : List Int) (V : List Den) (R : PRes) : Prop := R.1.1 = 0 → ∀ (τ' : TT) (as' : List Ato) (D' : List Den) (P : List Int) (vs : List Den) (W : Den), PSQ τ0 l τ' R.2.2.1 as' D' (P ++ O) (vs ++ V) deep 0 → lnW as' = R.2.2.2.1 → RA P vs W → (∀ o, o ∈ P → f ≤ o) → eqD W R.2.1 → wfD R.2.1 → skQ l R.2.2.1 = R.2.2.1 → gx l m R.2.2.1 → (0 ≤ R.2.2.1 ∧ R.2.2.1 ≤ len l) → W_qReadAll_71 1 τ' Q
def STm (τ0 : TT) (l : List Int) (Q : TT → Prop) (N : Nat) : Prop := ∀ (m f : Int), lvQ m f → ∀ (deep c k : Int) (n : Nat) (T : Den) (as : List Ato) (D : List Den) (O : List Int) (V : List Den) (τ1 : TT), 0 ≤ k → k ≤ len l → lowO f O → PSQ τ0 l τ1 (skQ l k) as D O V deep 3 → lnW as = c → ∀ R : PRes, qS l N m deep T n k c = R → R.1.1 ≠ 99 → HXq τ0 Q R → KLV τ0 l Q m f deep O V R → H0q l τ1 (skQ l k) Q
def STL (τ0 : TT) (l : List Int) (Q : TT → Prop) (N : Nat) : Prop := ∀ (m f : Int), lvQ m f → ∀ (deep c k : Int) (n : Nat) (T : Den) (as : List Ato) (D : List Den) (P : List Int) (vs : List Den) (W : Den) (O : List Int) (V : List Den) (τ1 : TT), 0 ≤ k → k ≤ len l → lowO f O → PSQ τ0 l τ1 (skQ l k) as D (P ++ O) (vs ++ V) deep 0 → RA P vs W → (∀ o, o ∈ P → f ≤ o) → eqD W T → wfD T → gi l m (skQ l k) → lnW as = c → ∀ R : PRes, qS l N (m + 10) deep T n k c = R → R.1.1 ≠ 99 → HXq τ0 Q R → KLV τ0 l Q m f deep O V R → W_qReadAll_71 1 τ1 Q
theorem prB_n9 {r : PRes} {f : Den → Int → Int → PRes} (h : (prB r f).1.1 ≠ 99) : r.1.1 ≠ 99 := fun z => by
  rw [prB_no (by rw [z]; decide)] at h
  exact h z
theorem HXq.in {r : PRes} {f : Den → Int → Int → PRes} (h : HXq τ0 Q (prB r f)) : HXq τ0 Q r := fun hr τ' => by
  unfold HXq at h
  rw [prB_no hr] at h
  exact h hr τ'
/-- a bracket -/
theorem st_1 {N : Nat} (hm : STm τ0 l Q N) : ST1 τ0 l Q (N + 1) := by
  intro deep c k T as D O V τ1 h40 k0 hsk hP hc R hR h99 hX hS K hKK
  rw [qS_1] at hR
  have h41 := sgQ_c.mp h40
  have eN : nxQ l k = (5, 0, k + 1) := by unfold nxQ; rw [if_neg (by omega), if_pos h41.2]
  obtain ⟨⟨hs1, hl⟩, hB, hb, hw⟩ := hP
  have hbr := hb.r (by omega) (by decide)
  obtain ⟨a1, a2, a3, a4, a5, a6, a7, a8, a9⟩ := hB
  rw [WRDQ, eN] at hw
  rcases hw with ⟨b1, b2, b3, b4, b5, b6⟩ | ⟨b1, -⟩
  rotate_left
  · exact absurd b1 (show ¬ (5 : Int) = -9 by decide)
  have b5 : τ1.1 264 = k + 1 := b5
  have b3 : τ1.1 270 = 5 := b3
  have hbd := hb
  obtain ⟨d1, d2, d3, d4, d5⟩ := hb
  refine s_qOperand ?_
  rw [b3, b4, a8]
  refine fun r1 => ⟨fun c5 => ⟨fun c20 => absurd rfl c20, fun c20 r24 => ⟨fun c29 => ?_, fun c29 => ?_⟩⟩, fun c5 => absurd c5 (by decide)⟩
  · rw [if_neg c29] at hR
    refine s_qOperand_41 ?_
    rw [a8]
    refine fun r43 => ⟨by omega, t_qHold (τ := τ1.s 293 (deep + 1)) (ops := O) (a6.fr (Fr.rf.ps _ _ : Fr τ1 _ [293] [])) (by omega) (by decide) (fun τ2 hF2 hW2 => hKK _ _ (Or.inl rfl) ?_)⟩
    have F2 : Fr τ1 τ2 [292, 293] [192] := (Fr.rf.ps 293 (deep + 1)).tr hF2
    have hB2 : PSB τ0 l τ2 as D (5 :: O) V (deep + 1) := ⟨a1.tr F2, a2.fr (F2.s 263) (F2.a 178), a3.fr F2, a4.fr F2, a5.fr F2, hW2, (F2.s 277).trans a7, (hF2.s 293).trans rfl, a9⟩
    have hbd2 : BDQ (k + 1) as D (5 :: O) V (deep + 1) 3 := ⟨by rw [lnW_c]; omega, d2, d3, by omega, by omega⟩
    refine nx100 hl hB2 ((F2.s 264).trans b5) ((F2.s 265).trans b2) ⟨by omega, by omega⟩ hbd2 (Or.inl rfl) (fun τ3 hP3 => h0_71 hP3 ?_)
    generalize hR1 : qS l N (-4) (deep + 1) T 0 (k + 1) c = R1 at hR
    have h991 : R1.1.1 ≠ 99 := prB_n9 (by rw [hR]; exact h99)
    refine hm (-4) 1 (Or.inr (Or.inr ⟨rfl, rfl⟩)) (deep + 1) c (k + 1) 0 T as D (5 :: O) V τ3 (by omega) (by omega) (Or.inl rfl) hP3 hc R1 hR1 h991 (by rw [← hR] at hX; exact hX.in) (fun hok τ4 as4 D4 P4 vs4 W4 hP4 g1 g2 g3 g4 g5 g6 g7 g8 => ?_)
    rw [prB_ok hok] at hR
    -- behind what is in it
    have hg3 := g7.1
    have hg5 := g7.2.1 (by decide)
    have hg4 := g7.2.2 rfl
    obtain ⟨⟨hs4, -⟩, hB4, hb4, hw4⟩ := hP4
    obtain ⟨e1, e2, e3, e4, e5, e6, e7, e8, e9⟩ := hB4
    have hb4r := hb4.r (by omega) (by decide)
    rcases nx_kinds (l := l) (s := R1.2.2.1) hs4 with ⟨z1, z2⟩ | ⟨z1, z2⟩
    · -- the text ends
      have hsg : sgQ l R1.2.2.1 41 = false := Bool.eq_false_iff.mpr (fun y => by have := (sgQ_c.mp y).1; omega)
      have hbk : bkR l R1.2.1 R1.2.2.1 R1.2.2.2.1 = pX (wrW l R1.2.2.1) R1.2.2.1 6 := by unfold bkR; rw [g6, if_neg (by rw [hsg]; decide)]
      have hR' : R.1 = (1, R1.2.2.1) := by rw [← hR, hbk, wrW_1 (Or.inl z1)]; rfl
      refine end_bad ⟨⟨hs4, hl⟩, ⟨e1, e2, e3, e4, e5, e6, e7, e8, e9⟩, hb4, hw4⟩ z1 (Or.inr ⟨rfl, by omega⟩) (fun τ5 hF5 x1 x2 => hX (by rw [hR']; exact (show (1 : Int) ≠ 0 by decide)) τ5 hF5 (by rw [hR']; exact x1) (by rw [hR']; exact x2))
    · have h41' : gt l R1.2.2.1 = 41 := by
        unfold goF at hg3 hg4 hg5
        rw [if_neg (by decide), if_neg (by decide)] at hg3
        rw [if_pos rfl] at hg4
        rw [if_neg (by decide), if_pos rfl] at hg5
        rw [hg4, hg5, decide_eq_true z1] at hg3
        have y : sgQ l R1.2.2.1 41 = true := by
          cases q : sgQ l R1.2.2.1 41 with
          | true => rfl
          | false => rw [q] at hg3; exact absurd hg3 (by decide)
        exact (sgQ_c.mp y).2
      have eN4 : nxQ l R1.2.2.1 = (6, 0, R1.2.2.1 + 1) := by unfold nxQ; rw [if_neg (by omega), if_neg (by omega), if_pos h41']
      have hsg : sgQ l R1.2.2.1 41 = true := sgQ_c.mpr ⟨z1, h41'⟩
      have hbk : bkR l R1.2.1 R1.2.2.1 R1.2.2.2.1 = ((0, 0), R1.2.1, R1.2.2.1 + 1, R1.2.2.2.1, 0) := by unfold bkR; rw [g6, if_pos hsg]
      rw [hbk] at hR
      rw [WRDQ, eN4] at hw4
      rcases hw4 with ⟨f1, f2, f3, f4, f5, f6⟩ | ⟨f1, -⟩
      rotate_left
      · exact absurd f1 (show ¬ (6 : Int) = -9 by decide)
      have f3 : τ4.1 270 = 6 := f3
      have f5 : τ4.1 264 = R1.2.2.1 + 1 := f5
      refine s_qReadAll_71 (fun r72 => ⟨fun y => absurd f2 y, fun _ => ?_⟩)
      rw [f3]
      refine fun r79 => ⟨fun y => absurd y (by decide), fun _ => ⟨by decide, fun y => absurd y (by decide), fun _ => s_qBehind ?_⟩⟩
      rw [f3, e8]
      refine fun r1 => ⟨fun y => absurd y (by decide), fun _ => ⟨fun y => absurd y (by decide), fun _ => ⟨fun _ => ⟨fun y => absurd rfl y, fun _ r44 => ⟨fun _ => s_qReduceTo ?_, fun y => by omega⟩⟩, fun y => absurd y (by decide)⟩⟩⟩
      have hl4 : lnW (P4 ++ 5 :: O) = lnW (P4 ++ (5 :: O)) := rfl
      refine t_qReduceTo0 (τ := τ4) (O := 5 :: O) (V := V) (f := 1) (Or.inl rfl) (by decide) P4 vs4 D4 τ4 g2 g3 e4 e5 e6 e9 (by omega) (by omega) Fr.rf (fun τ5 D5 hF5 x1 x2 x3 x4 x5 => ?_)
      obtain ⟨y1, y2⟩ := x5.top
      have f293 : τ5.1 293 = deep + 1 := (hF5.s 293).trans e8
      rw [y1, f293]
      refine fun r68 => ⟨by omega, fun r78 => ⟨by omega, fun _ => ?_⟩⟩
      rw [show lnW O + 1 - 1 = lnW O by omega, show deep + 1 - 1 = deep by omega]
      have F6 : Fr τ5 ((τ5.s 292 (lnW O)).s 293 deep) [292, 293] [] := (Fr.rf.ps _ _).ps _ _
      have hB6 : PSB τ0 l ((τ5.s 292 (lnW O)).s 293 deep) as4 (D4 ++ D5) O (W4 :: V) deep := ⟨(e1.tr hF5).tr F6, e2.fr ((F6.s 263).trans (hF5.s 263)) ((F6.a 178).trans (hF5.a 178)), (e3.fr hF5).fr F6, x3.fr F6, x4.fr F6, (x5.pop rfl).fr (Fr.rf.ps 293 deep : Fr (τ5.s 292 (lnW O)) _ [293] []), (F6.s 277).trans ((hF5.s 277).trans e7), rfl, fun d hd => (List.mem_cons.mp hd).elim (fun q => by rw [q]; exact x2) (fun q => e9 d (List.mem_append_right _ q))⟩
      obtain ⟨u1, u2, u3, u4, u5⟩ := hb4
      have hvl : 1 ≤ lnW vs4 := by
        rcases Int.lt_or_le 0 (lnW vs4) with q | q
        · omega
        · have : vs4 = [] := List.eq_nil_of_length_eq_zero (by have := lnW_nn (l := vs4); unfold lnW at *; omega)
          rw [this] at g2
          cases P4 with
          | nil => exact absurd g2 (by intro q; cases q)
          | cons o r => rcases g2 with ⟨-, v, q, z, -⟩ | ⟨-, v, u, q, z, -⟩ <;> cases z
      rw [lnW_a] at u1 u2
      have hbd6 : BDQ (R1.2.2.1 + 1) as4 (D4 ++ D5) O (W4 :: V) deep 0 := ⟨by rw [lnW_a]; rw [lnW_c] at u1; omega, by rw [lnW_c]; omega, u3, by omega, by omega⟩
      refine nx100 hl hB6 ((F6.s 264).trans ((hF5.s 264).trans f5)) ((F6.s 265).trans ((hF5.s 265).trans f2)) ⟨by omega, by omega⟩ hbd6 (Or.inr rfl) (fun τ7 hP7 => ?_)
      have eR : R = ((0, 0), R1.2.1, R1.2.2.1 + 1, R1.2.2.2.1, 0 + R1.2.2.2.2) := hR.symm
      rw [eR] at hS
      exact hS rfl τ7 as4 (D4 ++ D5) W4 hP7 g1 g4 g5 ⟨by show 0 ≤ R1.2.2.1 + 1; omega, by show R1.2.2.1 + 1 ≤ len l; omega⟩
  · rw [if_pos c29] at hR
    have hR' : R.1 = (5, k) := by rw [← hR]; rfl
    refine fun r35 => t_qFail b2 (by decide) (by omega) (fun τ2 hF2 g1 g2 => s_qOperand_41 ?_)
    rw [hF2.s 293, a8]
    refine fun r43 => ⟨by omega, t_qHold (τ := τ2.s 293 (deep + 1)) (ops := O) ((a6.fr hF2).fr (Fr.rf.ps _ _ : Fr τ2 _ [293] [])) (by omega) (by decide) (fun τ3 hF3 hW3 => hKK _ _ (Or.inl rfl) ?_)⟩
    have F3 : Fr τ2 τ3 [292, 293] [192] := (Fr.rf.ps 293 (deep + 1)).tr hF3
    have x1 : τ3.1 265 = 5 := (F3.s 265).trans g1
    have x2 : τ3.1 266 = k := (F3.s 266).trans g2
    exact flt100 (by omega) (hX (by rw [hR']; exact (show (5 : Int) ≠ 0 by decide)) τ3 ((a1.tr hF2).tr F3) (by rw [hR']; exact x1) (by rw [hR']; exact x2)) (Or.inl rfl)
end QPS
