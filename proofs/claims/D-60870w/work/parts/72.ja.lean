/-! StringBuilder: a piece of a String, a digit is appended (characters of one byte) -/
set_option maxRecDepth 100000
section APP
variable {ω : AO} {d G g : Nat} {S S' S1 S2 : AS} {a b i n f v u x y c e r p s : Int} {l m : List Int} {Q : Int → AS → Prop} {QV : AS → Prop}
theorem t_J0_appendChars (hd : 2 ≤ d) (h : BldC ω S a l c 0) (hs : StrC S s m) (hw : wide m = 0) (hi : 0 ≤ i ∧ i ≤ n ∧ n ≤ len m) (hr : len l + (n - i) ≤ c)
    (hQ : ∀ S', BldC ω S' a (l ++ sub m i n) c 0 → BKp ω S S' a → QV S') : w_J0_appendChars ω d G a s i n S QV := by
  have hh := hs
  have hn := h.ne
  have hls := len_sub hi
  obtain ⟨j1, j2, j3⟩ := hs
  have hc := hh.wide
  rw [hw] at hc
  rw [hc] at j3
  rcases j3 with ⟨-, y2, y3⟩ | ⟨y, -⟩
  case inr => exact absurd y (by decide)
  obtain ⟨i1, i2, i3, i4, i5, i6, i7, i8, i9, i10⟩ := h
  rcases i10 with ⟨-, z2, z3⟩ | ⟨z, -⟩
  case inr => exact absurd z (by decide)
  have n0 := len_nn l
  refine s_J0_appendChars ⟨by omega, i1, 0, by omega, t_J0_isLatin1 i1 (fun x hx _ _ => ⟨fun c4 => ?_, fun _ => ⟨j1, 0, by omega, t_J2_isLatin1 j1 (fun x2 hx2 _ _ => ⟨fun c11 => ?_, fun _ => ⟨0, by omega, s_J2_value ⟨j1, fun v1 e1 r1 => ⟨by omega, fun _ _ v20 e20 r20 v24 e24 r24 => ?_⟩⟩⟩⟩)⟩⟩)⟩
  · rw [i4, if_pos rfl] at hx; omega
  · rw [hc, if_pos rfl] at hx2; omega
  rw [e1, e20, e24, i3]
  refine ⟨j2, i6, i5, ⟨by omega, by omega, by omega, by omega, by omega⟩, fun S30 e30 => ?_⟩
  have E30 : Ext S S30 := by rw [e30]; exact ⟨fun _ _ => ⟨rfl, rfl⟩, Int.le_refl _⟩
  have k3 : ∀ j, ct S30 a j = ct S a j := fun j => by rw [e30, ct_cp, if_neg hn]
  refine s_J0_appendChars_194 ⟨E30.tag (t := 1) i1 (by decide), fun v196 e196 r196 => ⟨i2, ?_⟩⟩
  rw [k3, i3] at e196
  rw [e196]
  refine ⟨⟨by omega, by omega⟩, fun S203 e203 => ⟨by omega, ?_⟩⟩
  have E203 : Ext S S203 := E30.wr e203
  have ea : ∀ j, j ≠ 3 → ct S203 a j = ct S a j := fun j hj => by rw [e203, ct_wrK hj]; exact k3 j
  have e3 : ct S203 a 3 = len l + (n - i) := by rw [e203, ct_wr1]
  have e0 := ea 0 (by decide)
  have ed : ∀ j, ct S203 (ct S a 0) j = ct S30 (ct S a 0) j := fun j => by rw [e203, ct_wrN (Ne.symm hn)]
  refine hQ S203 ⟨E203.tag (t := 1) i1 (by decide), i2, by rw [e3, len_app, hls], by rw [ea 1 (by decide), i4], by rw [e0]; exact i5, by rw [e0]; exact E203.tag (t := 101) i6 (by decide), by rw [len_app, hls]; exact hr, i8, i9, Or.inl ⟨rfl, by rw [e0, E203.len (by omega), z2], fun k k0 kk => ?_⟩⟩ ⟨fun b j hb hx => ?_, Or.inl e0, by rw [e203, nx_wr, e30, nx_cp]; exact Int.le_refl _, E203⟩
  · rw [len_app, hls] at kk
    rw [e0, ed, e30, ct_cp, if_pos rfl, gt_appL k0]
    by_cases hk : k < len l
    · rw [if_pos hk, if_neg (by omega)]; exact z3 k k0 hk
    · rw [if_neg hk, if_pos ⟨by omega, by omega⟩, gt_sub hi (by omega) (by omega)]
      exact y3 (i + (k - len l)) (by omega) (by omega)
  · rw [e203, ct_wrN (fun z => hx (Or.inl z)), e30, ct_cp, if_neg (fun z => hx (Or.inr z))]
theorem t_J0_append_4 (hd : 4 ≤ d) (h : BldC ω S a l c 0) (hs : StrC S s m) (hw : wide m = 0) (hs0 : 0 ≤ s) (ha : 0 ≤ a) (hi : 0 ≤ i ∧ i ≤ n ∧ n ≤ len m) (hlm : len m ≤ 15000000) (hd2 : ct S s 0 ≠ ct S a 0) (hwf : s < nx S ∧ ct S s 0 < nx S) (hc : bC c (len l + (n - i)) ≤ 20000000) (hG : bC c (len l + (n - i)) - c ≤ (G : Int))
    (hQ : ∀ S', BldC ω S' a (l ++ sub m i n) (bC c (len l + (n - i))) 0 → BKp ω S S' a → Q a S') : w_J0_append_4 ω d G a s i n S Q := by
  have n0 := len_nn l
  have h3 := h.2.2.1
  have h8 := h.2.2.2.2.2.2.2.1
  have hge := bC_ge (m := len l + (n - i)) h8
  have hsa : s ≠ a := fun z => by have z1 := hs.1; have z2 := h.1; rw [z, z2] at z1; exact absurd z1 (by decide)
  have hsv : s ≠ ct S a 0 := fun z => by have z1 := hs.1; have z2 := h.2.2.2.2.2.1; rw [z, z2] at z1; exact absurd z1 (by decide)
  have hva : ct S s 0 ≠ a := fun z => by have z1 := hs.2.1; have z2 := h.1; rw [z, z2] at z1; exact absurd z1 (by decide)
  refine s_J0_append_4 ⟨fun _ => s_J0_append_4_7 ⟨by omega, hs.1, 0, by omega, t_J2_length (by omega) hs (fun _ _ => ⟨0, by omega, t_J13_checkFromToIndex hi (by omega) (fun _ _ => ⟨h.1, fun v29 e29 r29 => ⟨(bC c (len l + (n - i)) - c).toNat, by omega, ?_⟩⟩)⟩)⟩, fun c => by omega⟩
  rw [e29, h3]
  refine t_J0_ensure (by omega) h ⟨by omega, by omega⟩ hc (by unfold bK; rw [if_pos rfl, if_pos rfl]; omega) (fun S1 k1 k2 _ => Or.inr ?_)
  have E1 := k2.2.2.2
  have hs1 : StrC S1 s m := hs.keep E1 (fun j => k2.1 s j hwf.1 (fun z => z.elim hsa hsv)) (fun j => k2.1 _ j hwf.2 (fun z => z.elim hva hd2))
  refine ⟨hs1.1, Or.inr (by rw [hs1.1]; exact List.mem_singleton.mpr rfl), 0, by omega, t_J0_appendChars (by omega) k1 hs1 hw hi hge.2 (fun S' q1 q2 _ => ⟨by omega, by omega, hQ S' q1 (k2.tr q2)⟩)⟩
theorem t_J1_append_4 (hd : 5 ≤ d) (h : BldC ω S a l c 0) (hs : StrC S s m) (hw : wide m = 0) (hs0 : 0 ≤ s) (ha : 0 ≤ a) (hi : 0 ≤ i ∧ i ≤ n ∧ n ≤ len m) (hlm : len m ≤ 15000000) (hd2 : ct S s 0 ≠ ct S a 0) (hwf : s < nx S ∧ ct S s 0 < nx S) (hc : bC c (len l + (n - i)) ≤ 20000000) (hG : bC c (len l + (n - i)) - c ≤ (G : Int))
    (hQ : ∀ S', BldC ω S' a (l ++ sub m i n) (bC c (len l + (n - i))) 0 → BKp ω S S' a → Q a S') : w_J1_append_4 ω d G a s i n S Q :=
  s_J1_append_4 ⟨by omega, h.1, G, by omega, t_J0_append_4 (by omega) h hs hw hs0 ha hi hlm hd2 hwf hc hG (fun S' k1 k2 _ _ => ⟨by omega, by omega, hQ S' k1 k2⟩)⟩
-- a digit
theorem t_J19_stringSize1 (hx : 0 ≤ x ∧ x < 10) (hQ : Q 1 S) : w_J19_stringSize ω d G x S Q :=
  s_J19_stringSize ⟨⟨by omega, by omega⟩, fun c3 => by omega, fun c3 => s_J19_stringSize_11 (s_J19_stringSize_16 ⟨⟨by omega, by omega⟩, fun c19 => by omega, fun c19 => ⟨⟨by omega, by omega⟩, ⟨by omega, by omega⟩, fun c24 => by omega, fun c24 => ⟨by omega, ⟨by omega, by omega⟩, hQ⟩⟩⟩)⟩
theorem t_J19_getChars1 (hx : 0 ≤ x ∧ x < 10) (hD : tg S ((ω.2.2.1 "#V" 7 : Int) - 1) = 101 ∧ x < ln S ((ω.2.2.1 "#V" 7 : Int) - 1) ∧ ct S ((ω.2.2.1 "#V" 7 : Int) - 1) x = 48 + x) (ht : tg S u = 101) (hb : bo ω ≤ u) (hi : 0 ≤ i ∧ i < ln S u) (hi2 : i ≤ 100000000) (hQ : ∀ S', S' = wr S u i (48 + x) → Q i S') : w_J19_getChars ω d G x (i + 1) u S Q := by
  refine s_J19_getChars ⟨⟨by omega, by omega⟩, fun c4 => s_J19_getChars_12 ⟨⟨by omega, by omega⟩, fun c16 => absurd rfl c16, fun c16 => s_J19_getChars_22 ⟨⟨by omega, by omega⟩, fun c25 => ⟨hD.1, ⟨by omega, by omega⟩, fun v83 e83 r83 => ⟨ht, hb, ⟨by omega, by omega⟩, fun S84 e84 => ⟨fun c88 => s_J19_getChars_104 ⟨⟨by omega, by omega⟩, fun c106 => ⟨by omega, ⟨by omega, by omega⟩, ?_⟩, fun c106 => absurd rfl c106⟩, fun c88 => by omega⟩⟩⟩, fun c25 => by omega⟩⟩, fun c4 => by omega⟩
  rw [Int.neg_neg, hD.2.2] at e83
  rw [e83, show i + 1 + -1 = i by omega] at e84
  rw [show i + 1 + -1 = i by omega]
  exact hQ S84 e84
theorem t_J0_append_2 (hd : 4 ≤ d) (h : BldC ω S a l c 0) (hx : 0 ≤ x ∧ x < 10) (hD : tg S ((ω.2.2.1 "#V" 7 : Int) - 1) = 101 ∧ x < ln S ((ω.2.2.1 "#V" 7 : Int) - 1) ∧ ct S ((ω.2.2.1 "#V" 7 : Int) - 1) x = 48 + x) (hwf : (ω.2.2.1 "#V" 7 : Int) - 1 < nx S ∧ (ω.2.2.1 "#V" 7 : Int) - 1 ≠ ct S a 0) (ha : 0 ≤ a) (hc : bC c (len l + 1) ≤ 20000000) (hG : bC c (len l + 1) - c ≤ (G : Int))
    (hQ : ∀ S', BldC ω S' a (l ++ [48 + x]) (bC c (len l + 1)) 0 → BKp ω S S' a → Q a S') : w_J0_append_2 ω d G a x S Q := by
  have n0 := len_nn l
  have h3 := h.2.2.1
  have h8 := h.2.2.2.2.2.2.2.1
  have hge := bC_ge (m := len l + 1) h8
  refine s_J0_append_2 ⟨h.1, fun v1 e1 r1 => ⟨by omega, 0, by omega, t_J19_stringSize1 hx (fun _ _ => ⟨(bC c (len l + 1) - c).toNat, by omega, ?_⟩)⟩⟩
  rw [e1, h3]
  refine t_J0_ensure (by omega) h ⟨by omega, by omega⟩ hc (by unfold bK; rw [if_pos rfl, if_pos rfl]; omega) (fun S1 k1 k2 _ => ?_)
  have E1 := k2.2.2.2
  have hn := k1.ne
  generalize hDD : (ω.2.2.1 "#V" 7 : Int) - 1 = D at *
  have hDa : D ≠ a := fun z => by have z1 := hD.1; have z2 := h.1; rw [z, z2] at z1; exact absurd z1 (by decide)
  have hD1 : tg S1 D = 101 ∧ x < ln S1 D ∧ ct S1 D x = 48 + x := ⟨E1.tag (t := 101) hD.1 (by decide), by rw [E1.len (by rw [hD.1]; decide)]; exact hD.2.1, by rw [k2.1 D x hwf.1 (fun z => z.elim hDa hwf.2)]; exact hD.2.2⟩
  obtain ⟨i1, i2, i3, i4, i5, i6, i7, i8, i9, i10⟩ := k1
  rcases i10 with ⟨-, z2, z3⟩ | ⟨z, -⟩
  case inr => exact absurd z (by decide)
  refine ⟨0, by omega, t_J0_isLatin1 i1 (fun x2 hx2 _ _ => ⟨fun c21 => ?_, fun c21 v27 e27 r27 => ⟨0, by omega, ?_⟩⟩)⟩
  · rw [i4, if_pos rfl] at hx2; omega
  rw [e27]
  refine t_J19_getChars1 hx (by rw [hDD]; exact hD1) i6 i5 ⟨n0, by omega⟩ (by omega) (fun S30 e30 E30 _ => ?_)
  refine s_J0_append_2_48 ⟨E30.tag (t := 1) i1 (by decide), i2, ⟨by omega, by omega⟩, fun S50 e50 => ⟨by omega, by omega, ?_⟩⟩
  have E50 : Ext S1 S50 := E30.wr e50
  have ea : ∀ j, j ≠ 3 → ct S50 a j = ct S1 a j := fun j hj => by rw [e50, ct_wrK hj, e30, ct_wrN hn]
  have e3 : ct S50 a 3 = len l + 1 := by rw [e50, ct_wr1]
  have e0 := ea 0 (by decide)
  have ed : ∀ j, ct S50 (ct S1 a 0) j = if j = len l then 48 + x else ct S1 (ct S1 a 0) j := fun j => by
    rw [e50, ct_wrN (Ne.symm hn), e30, ct_wr]
    by_cases hj : j = len l
    · rw [if_pos ⟨rfl, hj⟩, if_pos hj]
    · rw [if_neg (fun z => hj z.2), if_neg hj]
  refine hQ S50 ⟨E50.tag (t := 1) i1 (by decide), i2, by rw [e3, len_app, len_1], by rw [ea 1 (by decide), i4], by rw [e0]; exact i5, by rw [e0]; exact E50.tag (t := 101) i6 (by decide), by rw [len_app, len_1]; omega, i8, i9, Or.inl ⟨rfl, by rw [e0, E50.len (by omega), z2], fun k k0 kk => ?_⟩⟩ (k2.tr ⟨fun b j hb hx => ?_, Or.inl e0, by rw [e50, nx_wr, e30, nx_wr]; exact Int.le_refl _, E50⟩)
  · rw [len_app, len_1] at kk
    rw [e0, ed, gt_app k0]
    by_cases hk : k < len l
    · rw [if_pos hk, if_neg (by omega)]; exact z3 k k0 hk
    · have hk2 : k = len l := by omega
      rw [if_neg hk, if_pos hk2, if_pos hk2]
      refine ⟨⟨by omega, by omega⟩, ?_⟩
      unfold sb
      rw [if_pos (by omega)]
  · rw [e50, ct_wrN (fun z => hx (Or.inl z)), e30, ct_wrN (fun z => hx (Or.inr z))]
theorem t_J1_append_2 (hd : 5 ≤ d) (h : BldC ω S a l c 0) (hx : 0 ≤ x ∧ x < 10) (hD : tg S ((ω.2.2.1 "#V" 7 : Int) - 1) = 101 ∧ x < ln S ((ω.2.2.1 "#V" 7 : Int) - 1) ∧ ct S ((ω.2.2.1 "#V" 7 : Int) - 1) x = 48 + x) (hwf : (ω.2.2.1 "#V" 7 : Int) - 1 < nx S ∧ (ω.2.2.1 "#V" 7 : Int) - 1 ≠ ct S a 0) (ha : 0 ≤ a) (hc : bC c (len l + 1) ≤ 20000000) (hG : bC c (len l + 1) - c ≤ (G : Int))
    (hQ : ∀ S', BldC ω S' a (l ++ [48 + x]) (bC c (len l + 1)) 0 → BKp ω S S' a → Q a S') : w_J1_append_2 ω d G a x S Q :=
  s_J1_append_2 ⟨by omega, h.1, G, by omega, t_J0_append_2 (by omega) h hx hD hwf ha hc hG (fun S' k1 k2 _ _ => ⟨by omega, by omega, hQ S' k1 k2⟩)⟩
end APP
section APL
variable {ω : AO} {d G : Nat} {Θ : Th} {a s i n c x : Int} {l m : List Int}
theorem u_J1_append_4 {Q : Int → Th → Prop} (hd : 5 ≤ d) (h : xo Θ a = (1, l, c, 0)) (hf : ¬ fz Θ a) (hs : Str Θ s m) (hw : wide m = 0) (hi : 0 ≤ i ∧ i ≤ n ∧ n ≤ len m) (hc : bC c (len l + (n - i)) ≤ 20000000) (hG : bC c (len l + (n - i)) - c ≤ (G : Int))
    (hQ : ∀ Θ', Θ' = uq Θ a (1, l ++ sub m i n, bC c (len l + (n - i)), 0) → Q a Θ') : w2_J1_append_4 ω d G a s i n Θ Q :=
  Hid.mk (fun S w R => by
    obtain ⟨k1, k2, k3, k4⟩ := R.str hs
    have hnn := R.nn (a := a) (by rw [kd_of h]; exact Nat.succ_pos _)
    have hne : ct S s 0 ≠ ct S a 0 := fun z => by
      obtain ⟨ow, h1, -⟩ := R
      have q1 := h1 s (by rw [hs.kd]; decide)
      have q2 := h1 a (by rw [kd_of h]; exact Nat.succ_pos _)
      rw [hs.2] at q1
      rw [h] at q2
      have q3 := q1.str.2.2.2.2
      have q4 := q2.bld.2.2
      rw [z, q4] at q3
      omega
    refine mvA (Hid.out (t_J1_append_4 (Q := fun r S' => r = a ∧ BldC ω S' a (l ++ sub m i n) (bC c (len l + (n - i))) 0 ∧ BKp ω S S' a) hd (R.bld h) k1 hw k3 (R.nn (by rw [kd_of h]; exact Nat.succ_pos _)) hi k2 hne ⟨(w s (by rw [k1.1]; decide)).2, (w _ (by rw [k1.2.1]; decide)).2⟩ hc hG (fun S' k1 k2 => ⟨rfl, k1, k2⟩))) (fun r S' w' E ⟨z, k1, k2⟩ => ?_)
    subst z
    exact ⟨_, R.updB w E h hf k2 k1, Le.up hf (fun _ => (kd_of h).symm), hQ _ rfl⟩)
theorem u_J1_append_2 {Q : Int → Th → Prop} (hd : 5 ≤ d) (h : xo Θ a = (1, l, c, 0)) (hf : ¬ fz Θ a) (hx : 0 ≤ x ∧ x < 10) (hc : bC c (len l + 1) ≤ 20000000) (hG : bC c (len l + 1) - c ≤ (G : Int))
    (hQ : ∀ Θ', Θ' = uq Θ a (1, l ++ [48 + x], bC c (len l + 1), 0) → Q a Θ') : w2_J1_append_2 ω d G a x Θ Q :=
  Hid.mk (fun S w R => by
    obtain ⟨dl, hD, hDl, hDv, -⟩ := R.wd.2.2.2.2.2
    have kD : kd Θ (sv ω 7) = 101 := kd_of hD.2
    have tD := R.tgk kD ⟨by decide, by decide⟩
    obtain ⟨lD, cD⟩ := R.arr kD ⟨by decide, by decide⟩
    rw [vl_of hD.2] at lD cD
    have hn := R.nxx
    have hlt := R.lt (a := sv ω 7) (by rw [kD]; decide)
    have hne : sv ω 7 ≠ ct S a 0 := fun z => by
      obtain ⟨ow, h1, -⟩ := R
      have q2 := h1 a (by rw [kd_of h]; exact Nat.succ_pos _)
      rw [h] at q2
      have q4 := q2.bld.2.1
      rw [← z, kD] at q4
      exact absurd q4 (by decide)
    refine mvA (Hid.out (t_J1_append_2 (Q := fun r S' => r = a ∧ BldC ω S' a (l ++ [48 + x]) (bC c (len l + 1)) 0 ∧ BKp ω S S' a) hd (R.bld h) hx ⟨tD, by show x < ln S (sv ω 7); rw [lD]; show x < len dl; omega, by show ct S (sv ω 7) x = _; rw [cD x hx.1 (by show x < len dl; omega)]; exact hDv x hx.1 hx.2⟩ ⟨by show sv ω 7 < nx S; omega, hne⟩ (R.nn (by rw [kd_of h]; exact Nat.succ_pos _)) hc hG (fun S' k1 k2 => ⟨rfl, k1, k2⟩))) (fun r S' w' E ⟨z, k1, k2⟩ => ?_)
    subst z
    exact ⟨_, R.updB w E h hf k2 k1, Le.up hf (fun _ => (kd_of h).symm), hQ _ rfl⟩)
end APL
