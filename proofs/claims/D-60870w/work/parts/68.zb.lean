/-! the hash of a text that is wide: StringUTF16.hashCode goes by JLA.getUTF16Char, an interface call -/
set_option maxRecDepth 100000
theorem lm_J34_185 : SLk RJ34 185 yJ3_getChar cJ3_getChar 2 (some .char) 2 := ⟨q1731, q1053, q442, q1054, ⟨by decide, by decide, by decide +kernel⟩, by decide⟩
theorem lm_J10_66 : SLk RJ10 66 yJ10_utf16hashCode cJ10_utf16hashCode 6 (some .int) 4 := ⟨q1716, q1717, q459, q1718, ⟨by decide, by decide, by decide +kernel⟩, by decide⟩
def yJLA_getUTF16Char : MethodName := ⟨"jdk/internal/access/JavaLangAccess", "getUTF16Cha\x72", "([BI)C"⟩
theorem lm_J10_110 : FLkU RJ10 110 70 yJLA_getUTF16Char yJ34_getUTF16Char cJ34_getUTF16Char 3 (some .char) 2 :=
  ⟨RJ34, TN0, 0, rfl, ⟨by decide, by decide⟩, q1722, q1726, q1728, q1730, ⟨q1724, q1723, q1729, q1727, q1725⟩, ⟨by decide, by decide, by decide +kernel⟩, by decide, plainFor_of_name (by decide)⟩
theorem j34_body {ω : AO} {d G : Nat} {l0 l1 l2 : Int} {S : AS} {Q : Int → AS → Prop} (hB : (1 ≤ d) ∧ ∃ G2 : Nat, (0 + G2 ≤ G) ∧ w_J3_getChar ω (d - 1) G2 l1 l2 S (fun x2 S2 => ∀ (E2 : Ext S S2) (r2 : 0 ≤ x2 ∧ x2 < 65536), (0 + G2 ≤ G) ∧ Q x2 S2)) :
    SJ ω yJ34_getUTF16Char cJ34_getUTF16Char 3 (some .char) d G (fun S0 => eC S0 Q) 0 [(2, l0), (2, l1), (0, l2)] [] 0 S := by
  intro p_ e_ R_ s_ m_ args_ below_ meth_ c_ F hname S0 hE
  show AW F (eC S0 Q) 0 [(2, l0), (2, l1), (0, l2)] [] 0 S
  refine aw_aload_n dJ34_getUTF16Char_0 rfl ?_
  refine aw_iload_n dJ34_getUTF16Char_1 rfl ?_
  obtain ⟨n0_2, hB⟩ := hB
  obtain ⟨G2, y2, hB⟩ := hB
  replace hB := Hid.out hB
  refine aw_callS_C (As := [(2, l1), (0, l2)]) (rest := []) dJ34_getUTF16Char_2 lm_J34_185 hB rfl rfl (Nat.le_of_ble_eq_true rfl) (by omega) y2 (fun x2 S2 (r2 : 0 ≤ x2 ∧ x2 < 65536) q2 => ?_)
  obtain ⟨E2, hB⟩ := q2
  replace hB := hB E2 r2
  replace hE := hE.tr E2
  obtain ⟨n1_5, hB⟩ := hB
  exact aw_retC dJ34_getUTF16Char_5 rfl n1_5 (by clear hB; omega) ⟨hE, hB⟩
def w_J10_utf16hashCode (ω : AO) (d G : Nat) (l0 l1 l2 l3 : Int) (S : AS) (Q : Int → AS → Prop) : Prop := Hid (Ctr ω yJ10_utf16hashCode cJ10_utf16hashCode 6 (some .int) d G [(0, l0), (2, l1), (0, l2), (0, l3)] S (eI S Q))
def W_J10_utf16hashCode_8 (ω : AO) (d G : Nat) (l0 l1 l4 l5 : Int) (g : Nat) (S : AS) (Q : Int → AS → Prop) : Prop := Hid (SJ ω yJ10_utf16hashCode cJ10_utf16hashCode 6 (some .int) d G (fun S0 => eI S0 Q) 8 [(0, l0), (2, l1), vN, vN, (0, l4), (0, l5)] [] g S)
theorem s_J10_utf16hashCode {ω : AO} {d G : Nat} {l0 l1 l2 l3 : Int} {S : AS} {Q : Int → AS → Prop} (hB : W_J10_utf16hashCode_8 ω d G l0 l1 ((l2 + l3)) l2 (0) S Q) : w_J10_utf16hashCode ω d G l0 l1 l2 l3 S Q := by
  refine Hid.mk (SC.of (P := fun S0 => eI S0 Q) (vs := [(0, l0), (2, l1), (0, l2), (0, l3), vN, vN]) (plainFor_of_name (by decide)) rfl (Nat.le_of_ble_eq_true rfl) rfl ?_)
  intro p_ e_ R_ s_ m_ args_ below_ meth_ c_ F hname S0 hE
  show AW F (eI S0 Q) 0 [(0, l0), (2, l1), (0, l2), (0, l3), vN, vN] [] 0 S
  refine aw_iload_n dJ10_utf16hashCode_0 rfl ?_
  refine aw_iload_n dJ10_utf16hashCode_1 rfl ?_
  refine aw_iadd dJ10_utf16hashCode_2 ?_
  refine aw_istore (vs' := [(0, l0), (2, l1), (0, l2), (0, l3), (0, (l2 + l3)), vN]) dJ10_utf16hashCode_3 (by decide) rfl rfl ?_
  refine aw_iload_n dJ10_utf16hashCode_5 rfl ?_
  refine aw_istore (vs' := [(0, l0), (2, l1), (0, l2), (0, l3), (0, (l2 + l3)), (0, l2)]) dJ10_utf16hashCode_6 (by decide) rfl rfl ?_
  refine aw_lessL [(0, l0), (2, l1), vN, vN, (0, (l2 + l3)), (0, l2)] ⟨Or.inr rfl, Or.inr rfl, Or.inl (by decide), Or.inl (by decide), Or.inr rfl, Or.inr rfl, trivial⟩ ?_
  exact (Hid.out hB) _ _ _ _ _ _ _ _ _ F hname S0 hE
theorem s_J10_utf16hashCode_8 {ω : AO} {d G : Nat} {l0 l1 l4 l5 : Int} {g : Nat} {S : AS} {Q : Int → AS → Prop} (hB : (-2147483648 ≤ l5 ∧ l5 < 2147483648) ∧ (-2147483648 ≤ l4 ∧ l4 < 2147483648) ∧ (∀ (c12 : l4 ≤ l5), (g ≤ G) ∧ (-2147483648 ≤ l0 ∧ l0 < 2147483648) ∧ Q l0 S) ∧
    (∀ (c12 : l5 < l4), (2 ≤ d) ∧ tg S ((ω.2.2.1 "#V" 22 : Int) - 1) = 70 ∧ ∃ G25 : Nat, (g + G25 ≤ G) ∧ w_J3_getChar ω (d - 1 - 1) G25 l1 l5 S (fun x25 S25 => ∀ (E25 : Ext S S25) (r25 : 0 ≤ x25 ∧ x25 < 65536), (0 + G25 ≤ G25) ∧ W_J10_utf16hashCode_8 ω d G (wI ((31 * l0) + x25)) l1 l4 (l5 + 1) (g + G25) S25 Q))) : W_J10_utf16hashCode_8 ω d G l0 l1 l4 l5 g S Q := by
  refine Hid.mk ?_
  intro p_ e_ R_ s_ m_ args_ below_ meth_ c_ F hname S0 hE
  show AW F (eI S0 Q) 8 [(0, l0), (2, l1), vN, vN, (0, l4), (0, l5)] [] g S
  refine aw_iload dJ10_utf16hashCode_8 rfl ?_
  refine aw_iload dJ10_utf16hashCode_10 rfl ?_
  obtain ⟨n0_12, hB⟩ := hB
  obtain ⟨n1_12, hB⟩ := hB
  refine aw_icmp_ge 38 dJ10_utf16hashCode_12 (by decide) n0_12 n1_12 (fun c12 => ?_) (fun c12 => ?_)
  · replace hB := hB.1 c12
    refine aw_iload_n dJ10_utf16hashCode_38 rfl ?_
    obtain ⟨n2_39, hB⟩ := hB
    obtain ⟨n3_39, hB⟩ := hB
    exact aw_retI dJ10_utf16hashCode_39 rfl n2_39 n3_39 ⟨hE, hB⟩
  · replace hB := hB.2 c12
    refine aw_bipush dJ10_utf16hashCode_15 (by decide) ?_
    refine aw_iload_n dJ10_utf16hashCode_17 rfl ?_
    refine aw_imul dJ10_utf16hashCode_18 ?_
    refine aw_gets 22 dJ10_utf16hashCode_19 rfl q1719 ?_
    show AW F (eI S0 Q) 22 [(0, l0), (2, l1), vN, vN, (0, l4), (0, l5)] [(2, ((ω.2.2.1 "#V" 22 : Int) - 1)), (0, (31 * l0))] (g) S
    refine aw_aload_n dJ10_utf16hashCode_22 rfl ?_
    refine aw_iload dJ10_utf16hashCode_23 rfl ?_
    obtain ⟨n2_25, t_25, G25, y25, hB⟩ := hB
    refine aw_callFU (d' := d - 1) (G' := G25) (As := [(2, l1), (0, l5)]) (rest := [(0, (31 * l0))]) (vs' := [(2, ((ω.2.2.1 "#V" 22 : Int) - 1)), (2, l1), (0, l5)]) dJ10_utf16hashCode_25 lm_J10_110 t_25 rfl (Nat.le_of_ble_eq_true rfl) rfl (j34_body ⟨by omega, G25, by omega, hB⟩) rfl rfl (Nat.le_of_ble_eq_true rfl) (by omega) y25 (fun x25 S25 r25 q25 => ?_)
    obtain ⟨E25, hW⟩ := q25
    replace hE := hE.tr E25
    refine aw_iadd dJ10_utf16hashCode_30 ?_
    refine aw_wrap ?_
    refine aw_istore_n (vs' := [(0, (wI ((31 * l0) + x25))), (2, l1), vN, vN, (0, l4), (0, l5)]) dJ10_utf16hashCode_31 (by decide) rfl rfl ?_
    refine aw_iinc (vs' := [(0, (wI ((31 * l0) + x25))), (2, l1), vN, vN, (0, l4), (0, l5 + 1)]) dJ10_utf16hashCode_32 rfl (by decide) rfl rfl ?_
    refine aw_goto 8 dJ10_utf16hashCode_35 (by decide) ?_
    exact (Hid.out hW) _ _ _ _ _ _ _ _ _ F hname S0 hE
theorem s_J10_vhc5 {ω : AO} {d G : Nat} {l0 l1 l2 l3 : Int} {S : AS} {Q : Int → AS → Prop} (hB : (1 ≤ d) ∧ tg S l0 = 101 ∧ ∃ G71 : Nat, (0 + G71 ≤ G) ∧ w_J10_utf16hashCode ω (d - 1) G71 l3 l0 l1 l2 S (fun x71 S71 => ∀ (E71 : Ext S S71) (r71 : -2147483648 ≤ x71 ∧ x71 < 2147483648), (0 + G71 ≤ G) ∧ Q x71 S71)) : w_J10_vectorizedHashCode ω d G l0 l1 l2 l3 5 S Q := by
  refine Hid.mk (SC.of (P := fun S0 => eI S0 Q) (vs := [(2, l0), (0, l1), (0, l2), (0, l3), (0, 5)]) (plainFor_of_name (by decide)) rfl (Nat.le_of_ble_eq_true rfl) rfl ?_)
  intro p_ e_ R_ s_ m_ args_ below_ meth_ c_ F hname S0 hE
  show AW F (eI S0 Q) 0 [(2, l0), (0, l1), (0, l2), (0, l3), (0, 5)] [] 0 S
  refine aw_iload dJ10_vectorizedHashCode_0 rfl ?_
  refine aw_tab 129 [44, 57, 129, 129, 90, 103, 116] dJ10_vectorizedHashCode_2 ⟨by decide, by decide⟩ (by decide) (by decide) rfl (fun c2 => ?_) ⟨fun c2 => ?_, fun c2 => ?_, fun c2 => ?_, fun c2 => ?_, fun c2 => ?_, fun c2 => ?_, fun c2 => ?_, trivial⟩
  case refine_3 =>
    obtain ⟨n0, t0, G71, y71, hB⟩ := hB
    refine aw_aload_n dJ10_vectorizedHashCode_57 rfl ?_
    refine aw_instA (ty := .byte) 0 dJ10_vectorizedHashCode_58 t0 rfl (by decide) q1712 (by decide) (fun h => h) ?_
    refine aw_if_eq 77 dJ10_vectorizedHashCode_61 (by decide) (by decide) (fun c61 => ?_) (fun c61 => ?_)
    · exact absurd c61 (by decide)
    · refine aw_iload_n dJ10_vectorizedHashCode_64 rfl ?_
      refine aw_aload_n dJ10_vectorizedHashCode_65 rfl ?_
      refine aw_ccA (ty := .byte) 0 dJ10_vectorizedHashCode_66 t0 rfl (by decide) q1712 (by decide) (fun h => h) ?_
      refine aw_iload_n dJ10_vectorizedHashCode_69 rfl ?_
      refine aw_iload_n dJ10_vectorizedHashCode_70 rfl ?_
      replace hB := Hid.out hB
      refine aw_callS_I (As := [(0, l3), (2, l0), (0, l1), (0, l2)]) (rest := []) dJ10_vectorizedHashCode_71 lm_J10_66 hB rfl rfl (Nat.le_of_ble_eq_true rfl) (by omega) y71 (fun x71 S71 (r71 : -2147483648 ≤ x71 ∧ x71 < 2147483648) q71 => ?_)
      obtain ⟨E71, hB⟩ := q71
      replace hB := hB E71 r71
      replace hE := hE.tr E71
      refine aw_goto 157 dJ10_vectorizedHashCode_74 (by decide) ?_
      obtain ⟨n2_157, hB⟩ := hB
      exact aw_retI dJ10_vectorizedHashCode_157 rfl n2_157 (by clear hB; omega) ⟨hE, hB⟩
  all_goals exfalso
  all_goals omega
section HSW
variable {ω : AO} {d G g : Nat} {S S' : AS} {a b v s x : Int} {l m : List Int} {Q : Int → AS → Prop} {Θ : Th}
theorem t_J10_utf16hashCode (hd : 2 ≤ d) (h : Enc S v 1 l) (ht : tg S v = 101) (hj : tg S (sv ω 22) = 70) (hl : len l ≤ 100000000) (hQ : Q (hsh l) S) : w_J10_utf16hashCode ω d G 0 v 0 (len l) S Q := by
  have n0 := len_nn l
  have L : ∀ (N : Nat) (k : Int), (len l - k).toNat = N → 0 ≤ k → k ≤ len l → W_J10_utf16hashCode_8 ω d G (hsh (l.take k.toNat)) v (len l) k 0 S Q := by
    intro N
    induction N using Nat.strongRecOn with
    | ind N ih =>
      intro k hN k0 k1
      have hi := hsh_in (l.take k.toNat)
      refine s_J10_utf16hashCode_8 ⟨⟨by omega, by omega⟩, ⟨by omega, by omega⟩, fun c12 => ⟨by omega, hi, ?_⟩, fun c12 => ⟨hd, hj, 0, by omega, t_J3_getChar h ht ⟨k0, c12⟩ (fun E r => ⟨by omega, ?_⟩)⟩⟩
      · rw [take_all c12]; exact hQ
      · rw [← hsh_snoc, ← take_snoc ⟨k0, c12⟩]
        exact ih _ (by omega) (k + 1) rfl (by omega) (by omega)
  have := L _ 0 rfl (by omega) n0
  have H : w_J10_utf16hashCode ω d G 0 v 0 (len l) S Q := s_J10_utf16hashCode (by rw [show (0 : Int) + len l = len l by omega]; exact this)
  exact H
theorem t_J3_hashCode (hd : 4 ≤ d) (h : Enc S v 1 l) (ht : tg S v = 101) (hj : tg S (sv ω 22) = 70) (hl : len l ≤ 100000000) (hQ : Q (hsh l) S) : w_J3_hashCode ω d G v S Q := by
  have n0 := len_nn l
  have hn : ln S v = 2 * len l := by
    rcases h with ⟨c, -⟩ | ⟨-, h, -⟩
    · exact absurd c (by decide)
    · exact h
  refine s_J3_hashCode ⟨ht, fun v1 e1 r1 => ⟨fun c2 v43 e43 r43 => ⟨by omega, 0, by omega, ?_⟩, fun c2 => ?_, fun c2 => ⟨by omega, 0, by omega, t_J3_getChar h ht ⟨by omega, by omega⟩ (fun E r => ⟨by omega, ?_⟩)⟩⟩⟩
  · rw [show v43 / 2 = len l by omega]
    exact s_J10_vhc5 ⟨by omega, ht, 0, by omega, t_J10_utf16hashCode (by omega) h ht hj hl (fun E51 r51 => ⟨by omega, fun E48 r48 => ⟨by omega, hQ⟩⟩)⟩
  · have : l = [] := List.eq_nil_of_length_eq_zero (by unfold len at hn n0; omega)
    subst this
    exact hQ
  · have e : hsh l = gt l 0 := by
      have e1 : l.take (0 + 1 : Int).toNat = l := take_all (by omega)
      rw [← e1, take_snoc ⟨by omega, by omega⟩]
      show wI (31 * 0 + gt l 0) = gt ([] ++ [gt l 0]) 0
      rw [wI_id ⟨by omega, by omega⟩]
      show 31 * 0 + gt l 0 = gt l 0
      omega
    rw [← e]
    exact hQ
theorem u_hashX {Q : Int → Th → Prop} (hJ : ∀ S, R2 ω S Θ → tg S (sv ω 22) = 70) (hd : 6 ≤ d) (hs : Str Θ a l) (hw : wide l = 1) (hQ : Q (hsh l) Θ) : w2_J2_hashCode ω d G a Θ Q :=
  Hid.mk (fun S w R => Hid.out (show w_J2_hashCode ω d G a S (q2 ω Θ Q) from by
    have hj := hJ S R
    obtain ⟨k1, k2, k3, k4⟩ := R.str hs
    have HS : HsC ω S a l := by
      obtain ⟨ow, r1, -⟩ := R
      have hr := r1 a (by rw [hs.kd]; decide)
      rw [hs.2] at hr
      unfold RV at hr
      rw [if_pos rfl] at hr
      exact hr.2.2.1
    have hwl := k1.wide
    rw [hw] at hwl
    have hin := hsh_in l
    have FIN : ∀ g : Nat, g ≤ G → ct S a 2 = 0 → ct S a 3 = 0 → W_J2_hashCode_40 ω d G a (hsh l) g S (q2 ω Θ Q) := by
      intro g hg h2 h3
      have hb : bo ω ≤ a := by
        rcases HS with z | z
        · exact z.2.2
        · have := z.2 (by rw [← z.1]; exact h2); omega
      refine s_J2_hashCode_40 ⟨hin, fun c42 => ⟨k1.1, hb, fun S55 e55 => ⟨hg, ?_⟩⟩, fun c42 => ⟨k1.1, hb, fun S47 e47 => ⟨hg, ?_⟩⟩⟩
      · rw [e55]
        exact ⟨Θ, R.hash w hs hb h2 (Or.inl ⟨rfl, rfl, c42⟩), Le.rf, hQ⟩
      · rw [e47]
        exact ⟨Θ, R.hash w hs hb h2 (Or.inr ⟨rfl, rfl, c42⟩), Le.rf, hQ⟩
    have H : w_J2_hashCode ω d G a S (q2 ω Θ Q) := by
      refine s_J2_hashCode ⟨k1.1, fun v1 e1 r1 => ⟨fun c6 => ⟨Θ, R, Le.rf, ?_⟩, fun c6 v10 e10 r10 => ⟨fun c13 => ⟨Θ, R, Le.rf, ?_⟩, fun c13 => ⟨by omega, 0, by omega, t_J2_isLatin1 k1.1 (fun x17 e17 E17 r17 => ⟨fun c20 v34 e34 r34 => ?_, fun c20 => ?_⟩)⟩⟩⟩⟩
      · rcases HS with z | z
        · exact absurd (e1.trans z.1) c6
        · rw [e1, z.1]; exact hQ
      · rcases HS with z | z
        · exact absurd (e10.trans z.2.1) c13
        · rw [e1, z.1]; exact hQ
      · have h3 := k1.2.2
        rw [hwl] at h3
        rw [e34]
        exact ⟨0, by omega, t_J3_hashCode (by omega) h3 k1.2.1 hj (by omega) (fun E27 r27 => FIN _ (by omega) (by omega) (by omega))⟩
      · rw [if_neg (by omega)] at e17; exact absurd e17 c20
    exact H))
end HSW
