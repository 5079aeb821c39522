/-! 95.g00.lean.txt -/

set_option maxRecDepth 100000
theorem lf_X11_697_25 : FLk RX11 697 25 13 .int false := sorry
theorem lf_X11_722_25 : FLk RX11 722 25 20 .int false := sorry
theorem lf_X11_62_25 : FLk RX11 62 25 22 (.array .byte) true := sorry
theorem lf_X11_68_25 : FLk RX11 68 25 24 (.array .int) true := sorry
theorem lm_X11_718 : SLk RX11 718 yX11_compare cX11_compare 7 (some .int) 6 := sorry
theorem lf_X11_71_25 : FLk RX11 71 25 25 (.array .int) true := sorry
theorem lf_X11_74_25 : FLk RX11 74 25 26 (.array .int) true := sorry
theorem lf_X11_84_25 : FLk RX11 84 25 29 (.array .byte) true := sorry
theorem lf_X11_77_25 : FLk RX11 77 25 27 (.array .int) true := sorry
theorem lf_X11_87_25 : FLk RX11 87 25 30 (.array .byte) true := sorry
theorem lf_X11_80_25 : FLk RX11 80 25 28 (.array .int) true := sorry
theorem lf_X11_59_25 : FLk RX11 59 25 21 (.array .byte) true := sorry
theorem lf_X11_65_25 : FLk RX11 65 25 23 (.array .int) true := sorry
theorem lm_X11_789 : VLk RX11 789 25 yX11_findOld cX11_findOld 5 (some .int) 3 := sorry
theorem lm_X11_792 : VLk RX11 792 25 yX11_isSame cX11_isSame 3 (some .boolean) 2 := sorry
theorem lm_X11_700 : SLk RX11 700 yX11_slash cX11_slash 4 (some .int) 3 := sorry
theorem lm_X11_704 : SLk RX11 704 yX11_ends cX11_ends 6 (some .boolean) 6 := sorry
theorem lf_X11_146_25 : FLk RX11 146 25 54 (.array .byte) true := sorry
theorem lf_X11_729_25 : FLk RX11 729 25 55 .int false := sorry
theorem lm_X11_740 : VLk RX11 740 25 yX11_isFrom cX11_isFrom 3 (some .boolean) 2 := sorry
theorem lm_X11_732 : VLk RX11 732 25 yX11_put cX11_put 2 none 1 := sorry
theorem lm_X11_708 : SLk RX11 708 yX11_sort cX11_sort 4 (some .int) 3 := sorry
theorem lm_X11_736 : VLk RX11 736 25 yX11_next cX11_next 4 (some .int) 2 := sorry
theorem lm_X11_744 : VLk RX11 744 25 yX11_line cX11_line 6 none 2 := sorry
theorem lm_X11_801 : VLk RX11 801 25 yX11_message cX11_message 11 (some .boolean) 2 := sorry
theorem lf_X11_715_25 : FLk RX11 715 25 19 .int false := sorry
theorem lf_X11_149_25 : FLk RX11 149 25 58 (.array .int) true := sorry
theorem lm_X11_798 : VLk RX11 798 25 yX11_find cX11_find 6 (some .int) 3 := sorry
theorem lf_X11_763_25 : FLk RX11 763 25 46 .int false := sorry
theorem lf_X11_134_25 : FLk RX11 134 25 50 (.array .int) true := sorry
theorem lf_X11_795_25 : FLk RX11 795 25 47 .int false := sorry
theorem lf_X11_128_25 : FLk RX11 128 25 48 (.array .int) true := sorry
theorem lf_X11_140_25 : FLk RX11 140 25 52 (.array .int) true := sorry
theorem lf_X11_137_25 : FLk RX11 137 25 51 (.array .int) true := sorry
theorem lf_X11_143_25 : FLk RX11 143 25 53 (.array .boolean) true := sorry
theorem lf_X11_131_25 : FLk RX11 131 25 49 (.array .int) true := sorry
theorem lm_X11_756 : SLk RX11 756 yX11_small cX11_small 1 (some .int) 1 := sorry
theorem lf_X11_760_25 : FLk RX11 760 25 56 .int false := sorry
theorem lf_X11_747_25 : FLk RX11 747 25 57 .int false := sorry
theorem lm_X11_750 : VLk RX11 750 25 yX11_isId cX11_isId 3 (some .boolean) 2 := sorry
theorem lm_X11_753 : VLk RX11 753 25 yX11_between cX11_between 6 none 2 := sorry
theorem lf_X11_90_25 : FLk RX11 90 25 32 (.array .byte) true := sorry
theorem lf_X11_96_25 : FLk RX11 96 25 34 (.array .int) true := sorry
theorem lf_X11_125_25 : FLk RX11 125 25 45 (.array .byte) true := sorry
theorem lf_X11_118_25 : FLk RX11 118 25 43 (.array .int) true := sorry
theorem lf_X11_121_25 : FLk RX11 121 25 44 (.array .int) true := sorry
theorem lf_X11_766_25 : FLk RX11 766 25 41 .int false := sorry
theorem lf_X11_773_25 : FLk RX11 773 25 42 .int false := sorry
theorem lm_X11_769 : VLk RX11 769 25 yX11_isVersion cX11_isVersion 2 (some .boolean) 1 := sorry
theorem lf_X11_776_25 : FLk RX11 776 25 31 .int false := sorry
theorem lm_X11_779 : VLk RX11 779 25 yX11_hasKey cX11_hasKey 2 (some .boolean) 1 := sorry
theorem lf_X11_99_25 : FLk RX11 99 25 35 (.array .int) true := sorry
theorem lm_X11_782 : VLk RX11 782 25 yX11_hasPlace cX11_hasPlace 3 (some .boolean) 1 := sorry
theorem lm_X11_785 : VLk RX11 785 25 yX11_version cX11_version 3 (some .int) 0 := sorry
theorem lf_X11_112_25 : FLk RX11 112 25 39 (.array .boolean) true := sorry
theorem lm_X11_803 : VLk RX11 803 25 yX11_findKey cX11_findKey 4 none 0 := sorry
theorem lm_X11_806 : VLk RX11 806 25 yX11_mailOf cX11_mailOf 3 (some .int) 0 := sorry
theorem lf_X11_152_25 : FLk RX11 152 25 64 (.array .int) true := sorry
theorem lf_X11_155_25 : FLk RX11 155 25 65 (.array .int) true := sorry
theorem lf_X11_164_25 : FLk RX11 164 25 68 (.array .boolean) true := sorry
theorem lf_X11_848_25 : FLk RX11 848 25 59 .int false := sorry
theorem lf_X11_851_25 : FLk RX11 851 25 60 .int false := sorry
theorem lm_X11_860 : VLk RX11 860 25 yX11_shift cX11_shift 3 none 2 := sorry
def w_thrown (τ : TT) (Q : Int → TT → Prop) : Prop := Hid (TC yX11_thrown cX11_thrown 1 (some .int) 0 (rI Q) (fun o => [(2, o)]) τ)
set_option maxHeartbeats 2000000 in
theorem s_thrown {τ : TT} {Q : Int → TT → Prop} (hB : ∀ (r1 : -2147483648 ≤ τ.1 13 ∧ τ.1 13 < 2147483648), Q (τ.1 13) τ) : w_thrown  τ Q := sorry
def w_compare (l0 l1 l2 l3 l4 l5 : Int) (τ : TT) (Q : Int → TT → Prop) : Prop := Hid (TC yX11_compare cX11_compare 7 (some .int) 0 (rI Q) (fun o => [(2, o + l0), (0, l1), (0, l2), (2, o + l3), (0, l4), (0, l5)]) τ)
def W_compare_3 (l0 l1 l2 l3 l4 l5 l6 : Int) (τ : TT) (Q : Int → TT → Prop) : Prop := Hid (TJ cX11_compare 7 (some .int) 0 (rI Q) 3 (fun o => [(2, o + l0), (0, l1), (0, l2), (2, o + l3), (0, l4), (0, l5), (0, l6)]) (fun o => []) τ)
def W_compare_38 (l0 l1 l2 l3 l4 l5 l6 : Int) (τ : TT) (Q : Int → TT → Prop) : Prop := Hid (TJ cX11_compare 7 (some .int) 0 (rI Q) 38 (fun o => [(2, o + l0), (0, l1), (0, l2), (2, o + l3), (0, l4), (0, l5), (0, l6)]) (fun o => []) τ)
set_option maxHeartbeats 2000000 in
theorem s_compare {l0 l1 l2 l3 l4 l5 : Int} {τ : TT} {Q : Int → TT → Prop} (hB : W_compare_3 l0 l1 l2 l3 l4 l5 0 τ Q) : w_compare l0 l1 l2 l3 l4 l5 τ Q := sorry
set_option maxHeartbeats 2000000 in
theorem s_compare_3 {l0 l1 l2 l3 l4 l5 l6 : Int} {τ : TT} {Q : Int → TT → Prop} (hB : (-2147483648 ≤ l6 ∧ l6 < 2147483648) ∧ (-2147483648 ≤ l2 ∧ l2 < 2147483648) ∧ (∀ (c6 : l2 ≤ l6), W_compare_38 l0 l1 l2 l3 l4 l5 l6 τ Q) ∧ (∀ (c6 : l6 < l2), (-2147483648 ≤ l5 ∧ l5 < 2147483648) ∧ (∀ (c13 : l5 ≤ l6), W_compare_38 l0 l1 l2 l3 l4 l5 l6 τ Q) ∧ (∀ (c13 : l6 < l5), (ttg l0 = 101) ∧ (0 ≤ (l1 + l6) ∧ (l1 + l6) < tlen l0) ∧ ∀ (r21 : -128 ≤ τ.2 l0 (l1 + l6) ∧ τ.2 l0 (l1 + l6) < 128), (ttg l3 = 101) ∧ (0 ≤ (l4 + l6) ∧ (l4 + l6) < tlen l3) ∧ ∀ (r28 : -128 ≤ τ.2 l3 (l4 + l6) ∧ τ.2 l3 (l4 + l6) < 128), (∀ (c29 : ¬ (τ.2 l0 (l1 + l6)) = (τ.2 l3 (l4 + l6))), W_compare_38 l0 l1 l2 l3 l4 l5 l6 τ Q) ∧ (∀ (c29 : (τ.2 l0 (l1 + l6)) = (τ.2 l3 (l4 + l6))), W_compare_3 l0 l1 l2 l3 l4 l5 ((l6 + 1)) τ Q)))) : W_compare_3 l0 l1 l2 l3 l4 l5 l6 τ Q := sorry
set_option maxHeartbeats 2000000 in
theorem s_compare_38 {l0 l1 l2 l3 l4 l5 l6 : Int} {τ : TT} {Q : Int → TT → Prop} (hB : (-2147483648 ≤ l6 ∧ l6 < 2147483648) ∧ (-2147483648 ≤ l2 ∧ l2 < 2147483648) ∧ (∀ (c41 : l2 ≤ l6), (-2147483648 ≤ (l2 - l5) ∧ (l2 - l5) < 2147483648) ∧ Q (l2 - l5) τ) ∧ (∀ (c41 : l6 < l2), (-2147483648 ≤ l5 ∧ l5 < 2147483648) ∧ (∀ (c48 : l5 ≤ l6), (-2147483648 ≤ (l2 - l5) ∧ (l2 - l5) < 2147483648) ∧ Q (l2 - l5) τ) ∧ (∀ (c48 : l6 < l5), (ttg l0 = 101) ∧ (0 ≤ (l1 + l6) ∧ (l1 + l6) < tlen l0) ∧ ∀ (r56 : -128 ≤ τ.2 l0 (l1 + l6) ∧ τ.2 l0 (l1 + l6) < 128), (ttg l3 = 101) ∧ (0 ≤ (l4 + l6) ∧ (l4 + l6) < tlen l3) ∧ ∀ (r67 : -128 ≤ τ.2 l3 (l4 + l6) ∧ τ.2 l3 (l4 + l6) < 128), Q (((τ.2 l0 (l1 + l6)) % 256) - ((τ.2 l3 (l4 + l6)) % 256)) τ))) : W_compare_38 l0 l1 l2 l3 l4 l5 l6 τ Q := sorry
def w_findOld (l1 l2 l3 : Int) (τ : TT) (Q : Int → TT → Prop) : Prop := Hid (TC yX11_findOld cX11_findOld 5 (some .int) 1 (rI Q) (fun o => [(2, o), (2, o + l1), (0, l2), (0, l3)]) τ)
def W_findOld_3 (l1 l2 l3 l4 : Int) (τ : TT) (Q : Int → TT → Prop) : Prop := Hid (TJ cX11_findOld 5 (some .int) 1 (rI Q) 3 (fun o => [(2, o), (2, o + l1), (0, l2), (0, l3), (0, l4)]) (fun o => []) τ)
set_option maxHeartbeats 2000000 in
theorem s_findOld {l1 l2 l3 : Int} {τ : TT} {Q : Int → TT → Prop} (hB : W_findOld_3 l1 l2 l3 0 τ Q) : w_findOld l1 l2 l3 τ Q := sorry
set_option maxHeartbeats 2000000 in
theorem s_findOld_3 {l1 l2 l3 l4 : Int} {τ : TT} {Q : Int → TT → Prop} (hB : ∀ (r6 : -2147483648 ≤ τ.1 20 ∧ τ.1 20 < 2147483648), (-2147483648 ≤ l4 ∧ l4 < 2147483648) ∧ (∀ (c9 : (τ.1 20) ≤ l4), Q (-1) τ) ∧ (∀ (c9 : l4 < (τ.1 20)), (0 ≤ l4 ∧ l4 < 40) ∧ ∀ (r27 : -2147483648 ≤ τ.2 20 l4 ∧ τ.2 20 l4 < 2147483648), w_compare 18 (40 * l4) (τ.2 20 l4) l1 l2 l3 τ (fun x31 τ31 => ∀ (r31 : -2147483648 ≤ x31 ∧ x31 < 2147483648), (∀ (c34 : ¬ x31 = 0), W_findOld_3 l1 l2 l3 ((l4 + 1)) τ31 Q) ∧ (∀ (c34 : x31 = 0), Q l4 τ31)))) : W_findOld_3 l1 l2 l3 l4 τ Q := sorry
def w_isSame (l1 l2 : Int) (τ : TT) (Q : Int → TT → Prop) : Prop := Hid (TC yX11_isSame cX11_isSame 3 (some .boolean) 1 (rZ Q) (fun o => [(2, o), (0, l1), (0, l2)]) τ)
set_option maxHeartbeats 2000000 in
theorem s_isSame {l1 l2 : Int} {τ : TT} {Q : Int → TT → Prop} (hB : (0 ≤ l1 ∧ l1 < 40) ∧ ∀ (r5 : -2147483648 ≤ τ.2 21 l1 ∧ τ.2 21 l1 < 2147483648), (0 ≤ l2 ∧ l2 < 40) ∧ ∀ (r11 : -2147483648 ≤ τ.2 22 l2 ∧ τ.2 22 l2 < 2147483648), (∀ (c12 : ¬ (τ.2 21 l1) = (τ.2 22 l2)), Q 0 τ) ∧ (∀ (c12 : (τ.2 21 l1) = (τ.2 22 l2)), ∀ (r29 : -2147483648 ≤ τ.2 23 l1 ∧ τ.2 23 l1 < 2147483648), ∀ (r44 : -2147483648 ≤ τ.2 24 l2 ∧ τ.2 24 l2 < 2147483648), w_compare 25 (2000 * l1) (τ.2 23 l1) 26 (2000 * l2) (τ.2 24 l2) τ (fun x45 τ45 => ∀ (r45 : -2147483648 ≤ x45 ∧ x45 < 2147483648), (∀ (c48 : ¬ x45 = 0), Q 0 τ45) ∧ (∀ (c48 : x45 = 0), Q 1 τ45)))) : w_isSame l1 l2 τ Q := sorry
def w_isKnown (l1 : Int) (τ : TT) (Q : Int → TT → Prop) : Prop := Hid (TC yX11_isKnown cX11_isKnown 3 (some .boolean) 2 (rZ Q) (fun o => [(2, o), (0, l1)]) τ)
set_option maxHeartbeats 2000000 in
theorem s_isKnown {l1 : Int} {τ : TT} {Q : Int → TT → Prop} (hB : (0 ≤ l1 ∧ l1 < 40) ∧ ∀ (r14 : -2147483648 ≤ τ.2 19 l1 ∧ τ.2 19 l1 < 2147483648), w_findOld 17 (40 * l1) (τ.2 19 l1) τ (fun x15 τ15 => ∀ (r15 : -2147483648 ≤ x15 ∧ x15 < 2147483648), (∀ (c21 : x15 = (-1)), Q 0 τ15) ∧ (∀ (c21 : ¬ x15 = (-1)), w_isSame l1 x15 τ15 (fun x27 τ27 => ∀ (r27 : x27 = 0 ∨ x27 = 1), (∀ (c30 : x27 = 0), Q 0 τ27) ∧ (∀ (c30 : ¬ x27 = 0), Q 1 τ27))))) : w_isKnown l1 τ Q := sorry
def w_slash (l0 l1 l2 : Int) (τ : TT) (Q : Int → TT → Prop) : Prop := Hid (TC yX11_slash cX11_slash 4 (some .int) 0 (rI Q) (fun o => [(2, o + l0), (0, l1), (0, l2)]) τ)
def W_slash_4 (l0 l1 l3 : Int) (τ : TT) (Q : Int → TT → Prop) : Prop := Hid (TJ cX11_slash 4 (some .int) 0 (rI Q) 4 (fun o => [(2, o + l0), (0, l1), vN, (0, l3)]) (fun o => []) τ)
set_option maxHeartbeats 2000000 in
theorem s_slash {l0 l1 l2 : Int} {τ : TT} {Q : Int → TT → Prop} (hB : W_slash_4 l0 l1 ((l2 - 1)) τ Q) : w_slash l0 l1 l2 τ Q := sorry
set_option maxHeartbeats 2000000 in
theorem s_slash_4 {l0 l1 l3 : Int} {τ : TT} {Q : Int → TT → Prop} (hB : (-2147483648 ≤ l3 ∧ l3 < 2147483648) ∧ (∀ (c5 : l3 < 0), Q l3 τ) ∧ (∀ (c5 : 0 ≤ l3), (ttg l0 = 101) ∧ (0 ≤ (l1 + l3) ∧ (l1 + l3) < tlen l0) ∧ ∀ (r12 : -128 ≤ τ.2 l0 (l1 + l3) ∧ τ.2 l0 (l1 + l3) < 128), (∀ (c15 : (τ.2 l0 (l1 + l3)) = 47), Q l3 τ) ∧ (∀ (c15 : ¬ (τ.2 l0 (l1 + l3)) = 47), W_slash_4 l0 l1 ((l3 + (-1))) τ Q))) : W_slash_4 l0 l1 l3 τ Q := sorry
def w_ends (l0 l1 l2 l3 l4 l5 : Int) (τ : TT) (Q : Int → TT → Prop) : Prop := Hid (TC yX11_ends cX11_ends 6 (some .boolean) 0 (rZ Q) (fun o => [(2, o + l0), (0, l1), (0, l2), (0, l3), (0, l4), (0, l5)]) τ)
set_option maxHeartbeats 2000000 in
theorem s_ends {l0 l1 l2 l3 l4 l5 : Int} {τ : TT} {Q : Int → TT → Prop} (hB : (-2147483648 ≤ l2 ∧ l2 < 2147483648) ∧ (∀ (c2 : l2 < 3), Q 0 τ) ∧ (∀ (c2 : 3 ≤ l2), (ttg l0 = 101) ∧ (0 ≤ ((l1 + l2) - 3) ∧ ((l1 + l2) - 3) < tlen l0) ∧ ∀ (r11 : -128 ≤ τ.2 l0 ((l1 + l2) - 3) ∧ τ.2 l0 ((l1 + l2) - 3) < 128), (-2147483648 ≤ l3 ∧ l3 < 2147483648) ∧ (∀ (c13 : ¬ (τ.2 l0 ((l1 + l2) - 3)) = l3), Q 0 τ) ∧ (∀ (c13 : (τ.2 l0 ((l1 + l2) - 3)) = l3), (0 ≤ ((l1 + l2) - 2) ∧ ((l1 + l2) - 2) < tlen l0) ∧ ∀ (r22 : -128 ≤ τ.2 l0 ((l1 + l2) - 2) ∧ τ.2 l0 ((l1 + l2) - 2) < 128), (-2147483648 ≤ l4 ∧ l4 < 2147483648) ∧ (∀ (c25 : ¬ (τ.2 l0 ((l1 + l2) - 2)) = l4), Q 0 τ) ∧ (∀ (c25 : (τ.2 l0 ((l1 + l2) - 2)) = l4), (0 ≤ ((l1 + l2) - 1) ∧ ((l1 + l2) - 1) < tlen l0) ∧ ∀ (r34 : -128 ≤ τ.2 l0 ((l1 + l2) - 1) ∧ τ.2 l0 ((l1 + l2) - 1) < 128), (-2147483648 ≤ l5 ∧ l5 < 2147483648) ∧ (∀ (c37 : ¬ (τ.2 l0 ((l1 + l2) - 1)) = l5), Q 0 τ) ∧ (∀ (c37 : (τ.2 l0 ((l1 + l2) - 1)) = l5), (∀ (c42 : l2 = 3), Q 1 τ) ∧ (∀ (c42 : ¬ l2 = 3), (0 ≤ ((l1 + l2) - 4) ∧ ((l1 + l2) - 4) < tlen l0) ∧ ∀ (r51 : -128 ≤ τ.2 l0 ((l1 + l2) - 4) ∧ τ.2 l0 ((l1 + l2) - 4) < 128), (∀ (c54 : ¬ (τ.2 l0 ((l1 + l2) - 4)) = 47), Q 0 τ) ∧ (∀ (c54 : (τ.2 l0 ((l1 + l2) - 4)) = 47), Q 1 τ))))))) : w_ends l0 l1 l2 l3 l4 l5 τ Q := sorry
def w_sort (l0 l1 l2 : Int) (τ : TT) (Q : Int → TT → Prop) : Prop := Hid (TC yX11_sort cX11_sort 4 (some .int) 1 (rI Q) (fun o => [(2, o + l0), (0, l1), (0, l2)]) τ)
def W_sort_114 (l0 l1 l2 l3 : Int) (τ : TT) (Q : Int → TT → Prop) : Prop := Hid (TJ cX11_sort 4 (some .int) 1 (rI Q) 114 (fun o => [(2, o + l0), (0, l1), (0, l2), (0, l3)]) (fun o => []) τ)
set_option maxHeartbeats 2000000 in
theorem s_sort {l0 l1 l2 : Int} {τ : TT} {Q : Int → TT → Prop} (hB : w_slash l0 l1 l2 τ (fun x3 τ3 => ∀ (r3 : -2147483648 ≤ x3 ∧ x3 < 2147483648), (∀ (c8 : 0 ≤ x3), w_ends l0 l1 x3 99 117 114 τ3 (fun x91 τ91 => ∀ (r91 : x91 = 0 ∨ x91 = 1), (∀ (c94 : ¬ x91 = 0), W_sort_114 l0 l1 l2 x3 τ91 Q) ∧ (∀ (c94 : x91 = 0), w_ends l0 l1 x3 110 101 119 τ91 (fun x106 τ106 => ∀ (r106 : x106 = 0 ∨ x106 = 1), (∀ (c109 : ¬ x106 = 0), W_sort_114 l0 l1 l2 x3 τ106 Q) ∧ (∀ (c109 : x106 = 0), Q 0 τ106))))) ∧ (∀ (c8 : x3 < 0), (-2147483648 ≤ l2 ∧ l2 < 2147483648) ∧ (∀ (c13 : l2 ≤ 5), Q 0 τ3) ∧ (∀ (c13 : 5 < l2), (ttg l0 = 101) ∧ (0 ≤ ((l1 + l2) - 5) ∧ ((l1 + l2) - 5) < tlen l0) ∧ ∀ (r22 : -128 ≤ τ3.2 l0 ((l1 + l2) - 5) ∧ τ3.2 l0 ((l1 + l2) - 5) < 128), (∀ (c25 : ¬ (τ3.2 l0 ((l1 + l2) - 5)) = 46), Q 0 τ3) ∧ (∀ (c25 : (τ3.2 l0 ((l1 + l2) - 5)) = 46), (0 ≤ ((l1 + l2) - 4) ∧ ((l1 + l2) - 4) < tlen l0) ∧ ∀ (r34 : -128 ≤ τ3.2 l0 ((l1 + l2) - 4) ∧ τ3.2 l0 ((l1 + l2) - 4) < 128), (∀ (c37 : ¬ (τ3.2 l0 ((l1 + l2) - 4)) = 109), Q 0 τ3) ∧ (∀ (c37 : (τ3.2 l0 ((l1 + l2) - 4)) = 109), (0 ≤ ((l1 + l2) - 3) ∧ ((l1 + l2) - 3) < tlen l0) ∧ ∀ (r46 : -128 ≤ τ3.2 l0 ((l1 + l2) - 3) ∧ τ3.2 l0 ((l1 + l2) - 3) < 128), (∀ (c49 : ¬ (τ3.2 l0 ((l1 + l2) - 3)) = 98), Q 0 τ3) ∧ (∀ (c49 : (τ3.2 l0 ((l1 + l2) - 3)) = 98), (0 ≤ ((l1 + l2) - 2) ∧ ((l1 + l2) - 2) < tlen l0) ∧ ∀ (r58 : -128 ≤ τ3.2 l0 ((l1 + l2) - 2) ∧ τ3.2 l0 ((l1 + l2) - 2) < 128), (∀ (c61 : ¬ (τ3.2 l0 ((l1 + l2) - 2)) = 111), Q 0 τ3) ∧ (∀ (c61 : (τ3.2 l0 ((l1 + l2) - 2)) = 111), (0 ≤ ((l1 + l2) - 1) ∧ ((l1 + l2) - 1) < tlen l0) ∧ ∀ (r70 : -128 ≤ τ3.2 l0 ((l1 + l2) - 1) ∧ τ3.2 l0 ((l1 + l2) - 1) < 128), (∀ (c73 : ¬ (τ3.2 l0 ((l1 + l2) - 1)) = 120), Q 0 τ3) ∧ (∀ (c73 : (τ3.2 l0 ((l1 + l2) - 1)) = 120), Q 2 τ3))))))))) : w_sort l0 l1 l2 τ Q := sorry
set_option maxHeartbeats 2000000 in
theorem s_sort_114 {l0 l1 l2 l3 : Int} {τ : TT} {Q : Int → TT → Prop} (hB : (-2147483648 ≤ (l3 + 1) ∧ (l3 + 1) < 2147483648) ∧ (-2147483648 ≤ l2 ∧ l2 < 2147483648) ∧ (∀ (c118 : l2 ≤ (l3 + 1)), Q 0 τ) ∧ (∀ (c118 : (l3 + 1) < l2), (ttg l0 = 101) ∧ (0 ≤ ((l1 + l3) + 1) ∧ ((l1 + l3) + 1) < tlen l0) ∧ ∀ (r127 : -128 ≤ τ.2 l0 ((l1 + l3) + 1) ∧ τ.2 l0 ((l1 + l3) + 1) < 128), (∀ (c130 : (τ.2 l0 ((l1 + l3) + 1)) = 46), Q 0 τ) ∧ (∀ (c130 : ¬ (τ.2 l0 ((l1 + l3) + 1)) = 46), ∀ (r139 : -128 ≤ τ.2 l0 ((l1 + l3) + 1) ∧ τ.2 l0 ((l1 + l3) + 1) < 128), (∀ (c142 : (τ.2 l0 ((l1 + l3) + 1)) = 58), Q 0 τ) ∧ (∀ (c142 : ¬ (τ.2 l0 ((l1 + l3) + 1)) = 58), Q 1 τ)))) : W_sort_114 l0 l1 l2 l3 τ Q := sorry
def w_put (l1 : Int) (τ : TT) (Q : TT → Prop) : Prop := Hid (TC yX11_put cX11_put 2 none 0 (rU Q) (fun o => [(2, o), (0, l1)]) τ)
set_option maxHeartbeats 2000000 in
theorem s_put {l1 : Int} {τ : TT} {Q : TT → Prop} (hB : ∀ (r5 : -2147483648 ≤ τ.1 55 ∧ τ.1 55 < 2147483648), (0 ≤ (τ.1 55) ∧ (τ.1 55) < 2000) ∧ (-2147483648 ≤ ((τ.1 55) + 1) ∧ ((τ.1 55) + 1) < 2147483648) ∧ Q ((τ.a 45 (τ.1 55) ((l1 + 128) % 256 - 128)).s 55 ((τ.1 55) + 1))) : w_put l1 τ Q := sorry
def w_next (l1 l2 : Int) (τ : TT) (Q : Int → TT → Prop) : Prop := Hid (TC yX11_next cX11_next 4 (some .int) 0 (rI Q) (fun o => [(2, o), (0, l1), (0, l2)]) τ)
def W_next_2 (l2 l3 : Int) (τ : TT) (Q : Int → TT → Prop) : Prop := Hid (TJ cX11_next 4 (some .int) 0 (rI Q) 2 (fun o => [(2, o), vN, (0, l2), (0, l3)]) (fun o => []) τ)
def W_next_24 (l2 l3 : Int) (τ : TT) (Q : Int → TT → Prop) : Prop := Hid (TJ cX11_next 4 (some .int) 0 (rI Q) 24 (fun o => [vN, vN, (0, l2), (0, l3)]) (fun o => []) τ)
set_option maxHeartbeats 2000000 in
theorem s_next {l1 l2 : Int} {τ : TT} {Q : Int → TT → Prop} (hB : W_next_2 l2 l1 τ Q) : w_next l1 l2 τ Q := sorry
set_option maxHeartbeats 2000000 in
theorem s_next_2 {l2 l3 : Int} {τ : TT} {Q : Int → TT → Prop} (hB : (-2147483648 ≤ l3 ∧ l3 < 2147483648) ∧ (-2147483648 ≤ l2 ∧ l2 < 2147483648) ∧ (∀ (c4 : l2 ≤ l3), W_next_24 l2 l3 τ Q) ∧ (∀ (c4 : l3 < l2), (0 ≤ l3 ∧ l3 < 80000) ∧ ∀ (r12 : -128 ≤ τ.2 25 l3 ∧ τ.2 25 l3 < 128), (∀ (c15 : (τ.2 25 l3) = 10), W_next_24 l2 l3 τ Q) ∧ (∀ (c15 : ¬ (τ.2 25 l3) = 10), W_next_2 l2 ((l3 + 1)) τ Q))) : W_next_2 l2 l3 τ Q := sorry
set_option maxHeartbeats 2000000 in
theorem s_next_24 {l2 l3 : Int} {τ : TT} {Q : Int → TT → Prop} (hB : (-2147483648 ≤ l3 ∧ l3 < 2147483648) ∧ (-2147483648 ≤ l2 ∧ l2 < 2147483648) ∧ (∀ (c26 : l2 ≤ l3), Q l2 τ) ∧ (∀ (c26 : l3 < l2), (-2147483648 ≤ (l3 + 1) ∧ (l3 + 1) < 2147483648) ∧ Q (l3 + 1) τ)) : W_next_24 l2 l3 τ Q := sorry
def w_isFrom (l1 l2 : Int) (τ : TT) (Q : Int → TT → Prop) : Prop := Hid (TC yX11_isFrom cX11_isFrom 3 (some .boolean) 0 (rZ Q) (fun o => [(2, o), (0, l1), (0, l2)]) τ)
set_option maxHeartbeats 2000000 in
theorem s_isFrom {l1 l2 : Int} {τ : TT} {Q : Int → TT → Prop} (hB : (-2147483648 ≤ (l1 + 5) ∧ (l1 + 5) < 2147483648) ∧ (-2147483648 ≤ l2 ∧ l2 < 2147483648) ∧ (∀ (c4 : l2 < (l1 + 5)), Q 0 τ) ∧ (∀ (c4 : (l1 + 5) ≤ l2), (0 ≤ l1 ∧ l1 < 80000) ∧ ∀ (r12 : -128 ≤ τ.2 25 l1 ∧ τ.2 25 l1 < 128), (∀ (c15 : ¬ (τ.2 25 l1) = 70), Q 0 τ) ∧ (∀ (c15 : (τ.2 25 l1) = 70), (0 ≤ (l1 + 1) ∧ (l1 + 1) < 80000) ∧ ∀ (r25 : -128 ≤ τ.2 25 (l1 + 1) ∧ τ.2 25 (l1 + 1) < 128), (∀ (c28 : ¬ (τ.2 25 (l1 + 1)) = 114), Q 0 τ) ∧ (∀ (c28 : (τ.2 25 (l1 + 1)) = 114), (0 ≤ (l1 + 2) ∧ (l1 + 2) < 80000) ∧ ∀ (r38 : -128 ≤ τ.2 25 (l1 + 2) ∧ τ.2 25 (l1 + 2) < 128), (∀ (c41 : ¬ (τ.2 25 (l1 + 2)) = 111), Q 0 τ) ∧ (∀ (c41 : (τ.2 25 (l1 + 2)) = 111), (0 ≤ (l1 + 3) ∧ (l1 + 3) < 80000) ∧ ∀ (r51 : -128 ≤ τ.2 25 (l1 + 3) ∧ τ.2 25 (l1 + 3) < 128), (∀ (c54 : ¬ (τ.2 25 (l1 + 3)) = 109), Q 0 τ) ∧ (∀ (c54 : (τ.2 25 (l1 + 3)) = 109), (0 ≤ (l1 + 4) ∧ (l1 + 4) < 80000) ∧ ∀ (r64 : -128 ≤ τ.2 25 (l1 + 4) ∧ τ.2 25 (l1 + 4) < 128), (∀ (c67 : ¬ (τ.2 25 (l1 + 4)) = 32), Q 0 τ) ∧ (∀ (c67 : (τ.2 25 (l1 + 4)) = 32), Q 1 τ))))))) : w_isFrom l1 l2 τ Q := sorry
def w_line (l1 l2 : Int) (τ : TT) (Q : TT → Prop) : Prop := Hid (TC yX11_line cX11_line 6 none 1 (rU Q) (fun o => [(2, o), (0, l1), (0, l2)]) τ)
def W_line_2 (l1 l2 l3 : Int) (τ : TT) (Q : TT → Prop) : Prop := Hid (TJ cX11_line 6 none 1 (rU Q) 2 (fun o => [(2, o), (0, l1), (0, l2), (0, l3), vN, vN]) (fun o => []) τ)
def W_line_24 (l1 l2 l3 : Int) (τ : TT) (Q : TT → Prop) : Prop := Hid (TJ cX11_line 6 none 1 (rU Q) 24 (fun o => [(2, o), (0, l1), (0, l2), (0, l3), vN, vN]) (fun o => []) τ)
def W_line_44 (l1 l2 : Int) (τ : TT) (Q : TT → Prop) : Prop := Hid (TJ cX11_line 6 none 1 (rU Q) 44 (fun o => [(2, o), (0, l1), (0, l2), vN, vN, vN]) (fun o => []) τ)
def W_line_51 (l2 l5 : Int) (τ : TT) (Q : TT → Prop) : Prop := Hid (TJ cX11_line 6 none 1 (rU Q) 51 (fun o => [(2, o), vN, (0, l2), vN, vN, (0, l5)]) (fun o => []) τ)
set_option maxHeartbeats 2000000 in
theorem s_line {l1 l2 : Int} {τ : TT} {Q : TT → Prop} (hB : W_line_2 l1 l2 l1 τ Q) : w_line l1 l2 τ Q := sorry
set_option maxHeartbeats 2000000 in
theorem s_line_2 {l1 l2 l3 : Int} {τ : TT} {Q : TT → Prop} (hB : (-2147483648 ≤ l3 ∧ l3 < 2147483648) ∧ (-2147483648 ≤ l2 ∧ l2 < 2147483648) ∧ (∀ (c4 : l2 ≤ l3), W_line_24 l1 l2 l3 τ Q) ∧ (∀ (c4 : l3 < l2), (0 ≤ l3 ∧ l3 < 80000) ∧ ∀ (r12 : -128 ≤ τ.2 25 l3 ∧ τ.2 25 l3 < 128), (∀ (c15 : ¬ (τ.2 25 l3) = 62), W_line_24 l1 l2 l3 τ Q) ∧ (∀ (c15 : (τ.2 25 l3) = 62), W_line_2 l1 l2 ((l3 + 1)) τ Q))) : W_line_2 l1 l2 l3 τ Q := sorry
set_option maxHeartbeats 2000000 in
theorem s_line_24 {l1 l2 l3 : Int} {τ : TT} {Q : TT → Prop} (hB : (-2147483648 ≤ l3 ∧ l3 < 2147483648) ∧ (-2147483648 ≤ l1 ∧ l1 < 2147483648) ∧ (∀ (c26 : l3 ≤ l1), W_line_44 l1 l2 τ Q) ∧ (∀ (c26 : l1 < l3), w_isFrom l3 l2 τ (fun x32 τ32 => ∀ (r32 : x32 = 0 ∨ x32 = 1), (∀ (c35 : x32 = 0), W_line_44 l1 l2 τ32 Q) ∧ (∀ (c35 : ¬ x32 = 0), W_line_51 l2 ((l1 + 1)) τ32 Q)))) : W_line_24 l1 l2 l3 τ Q := sorry
set_option maxHeartbeats 2000000 in
theorem s_line_44 {l1 l2 : Int} {τ : TT} {Q : TT → Prop} (hB : W_line_51 l2 l1 τ Q) : W_line_44 l1 l2 τ Q := sorry
set_option maxHeartbeats 2000000 in
theorem s_line_51 {l2 l5 : Int} {τ : TT} {Q : TT → Prop} (hB : (-2147483648 ≤ l5 ∧ l5 < 2147483648) ∧ (-2147483648 ≤ l2 ∧ l2 < 2147483648) ∧ (∀ (c54 : l2 ≤ l5), Q τ) ∧ (∀ (c54 : l5 < l2), (0 ≤ l5 ∧ l5 < 80000) ∧ ∀ (r64 : -128 ≤ τ.2 25 l5 ∧ τ.2 25 l5 < 128), w_put (τ.2 25 l5) τ (fun τ65 => W_line_51 l2 ((l5 + 1)) τ65 Q))) : W_line_51 l2 l5 τ Q := sorry
def w_message (l1 l2 : Int) (τ : TT) (Q : Int → TT → Prop) : Prop := Hid (TC yX11_message cX11_message 11 (some .boolean) 2 (rZ Q) (fun o => [(2, o), (0, l1), (0, l2)]) τ)
def W_message_101 (l2 l4 l6 l7 l8 l9 : Int) (τ : TT) (Q : Int → TT → Prop) : Prop := Hid (TJ cX11_message 11 (some .boolean) 2 (rZ Q) 101 (fun o => [(2, o), vN, (0, l2), vN, (0, l4), vN, (0, l6), (0, l7), (0, l8), (0, l9), vN]) (fun o => []) τ)
def W_message_49 (l2 l4 l5 l6 : Int) (τ : TT) (Q : Int → TT → Prop) : Prop := Hid (TJ cX11_message 11 (some .boolean) 2 (rZ Q) 49 (fun o => [(2, o), vN, (0, l2), vN, (0, l4), (0, l5), (0, l6), vN, vN, vN, vN]) (fun o => []) τ)
def W_message_192 (l2 l6 l7 : Int) (τ : TT) (Q : Int → TT → Prop) : Prop := Hid (TJ cX11_message 11 (some .boolean) 2 (rZ Q) 192 (fun o => [(2, o), vN, (0, l2), vN, vN, vN, (0, l6), (0, l7), vN, vN, vN]) (fun o => []) τ)
def W_message_146 (l2 l4 l6 l7 l9 l10 : Int) (τ : TT) (Q : Int → TT → Prop) : Prop := Hid (TJ cX11_message 11 (some .boolean) 2 (rZ Q) 146 (fun o => [(2, o), vN, (0, l2), vN, (0, l4), vN, (0, l6), (0, l7), vN, (0, l9), (0, l10)]) (fun o => []) τ)
def W_message_166 (l2 l4 l6 l7 l9 l10 : Int) (τ : TT) (Q : Int → TT → Prop) : Prop := Hid (TJ cX11_message 11 (some .boolean) 2 (rZ Q) 166 (fun o => [(2, o), vN, (0, l2), vN, (0, l4), vN, (0, l6), (0, l7), vN, (0, l9), (0, l10)]) (fun o => []) τ)
def W_message_226 (l2 l6 : Int) (τ : TT) (Q : Int → TT → Prop) : Prop := Hid (TJ cX11_message 11 (some .boolean) 2 (rZ Q) 226 (fun o => [vN, vN, (0, l2), vN, vN, vN, (0, l6), vN, vN, vN, vN]) (fun o => []) τ)
def W_message_183 (l2 l4 l6 l7 l10 s0 : Int) (τ : TT) (Q : Int → TT → Prop) : Prop := Hid (TJ cX11_message 11 (some .boolean) 2 (rZ Q) 183 (fun o => [(2, o), vN, (0, l2), vN, (0, l4), vN, (0, l6), (0, l7), vN, vN, (0, l10)]) (fun o => [(0, s0)]) τ)
set_option maxHeartbeats 2000000 in
theorem s_message {l1 l2 : Int} {τ : TT} {Q : Int → TT → Prop} (hB : (0 ≤ l1 ∧ l1 < 40) ∧ ∀ (r17 : -2147483648 ≤ τ.2 23 l1 ∧ τ.2 23 l1 < 2147483648), ∀ (r34 : -2147483648 ≤ τ.2 19 l1 ∧ τ.2 19 l1 < 2147483648), w_sort 17 (40 * l1) (τ.2 19 l1) (τ.s 55 0) (fun x35 τ35 => ∀ (r35 : -2147483648 ≤ x35 ∧ x35 < 2147483648), (∀ (c43 : x35 = 2), W_message_101 l2 (((2000 * l1) + (τ.2 23 l1))) ((-1)) ((-1)) 1 ((2000 * l1)) τ35 Q) ∧ (∀ (c43 : ¬ x35 = 2), W_message_49 l2 (((2000 * l1) + (τ.2 23 l1))) x35 ((2000 * l1)) τ35 Q))) : w_message l1 l2 τ Q := sorry
set_option maxHeartbeats 2000000 in
theorem s_message_101 {l2 l4 l6 l7 l8 l9 : Int} {τ : TT} {Q : Int → TT → Prop} (hB : (-2147483648 ≤ l9 ∧ l9 < 2147483648) ∧ (-2147483648 ≤ l4 ∧ l4 < 2147483648) ∧ (∀ (c105 : l4 ≤ l9), W_message_192 l2 l6 l7 τ Q) ∧ (∀ (c105 : l9 < l4), w_next l9 l4 τ (fun x113 τ113 => ∀ (r113 : -2147483648 ≤ x113 ∧ x113 < 2147483648), (-2147483648 ≤ l8 ∧ l8 < 2147483648) ∧ (∀ (c120 : l8 = 0), W_message_146 l2 l4 l6 l7 l9 x113 τ113 Q) ∧ (∀ (c120 : ¬ l8 = 0), w_isFrom l9 l4 τ113 (fun x128 τ128 => ∀ (r128 : x128 = 0 ∨ x128 = 1), (∀ (c131 : x128 = 0), W_message_146 l2 l4 l6 l7 l9 x113 τ128 Q) ∧ (∀ (c131 : ¬ x128 = 0), (-2147483648 ≤ (l6 + 1) ∧ (l6 + 1) < 2147483648) ∧ (-2147483648 ≤ l2 ∧ l2 < 2147483648) ∧ (∀ (c140 : (l6 + 1) ≤ l2), W_message_166 l2 l4 ((l6 + 1)) l7 l9 x113 τ128 Q) ∧ (∀ (c140 : l2 < (l6 + 1)), W_message_192 l2 ((l6 + 1)) l7 τ128 Q))))))) : W_message_101 l2 l4 l6 l7 l8 l9 τ Q := sorry
set_option maxHeartbeats 2000000 in
theorem s_message_49 {l2 l4 l5 l6 : Int} {τ : TT} {Q : Int → TT → Prop} (hB : (-2147483648 ≤ l6 ∧ l6 < 2147483648) ∧ (-2147483648 ≤ l4 ∧ l4 < 2147483648) ∧ (∀ (c53 : l4 ≤ l6), (-2147483648 ≤ l5 ∧ l5 < 2147483648) ∧ (∀ (c76 : ¬ l5 = 1), Q 0 τ) ∧ (∀ (c76 : l5 = 1), (-2147483648 ≤ l2 ∧ l2 < 2147483648) ∧ (∀ (c80 : ¬ l2 = 0), Q 0 τ) ∧ (∀ (c80 : l2 = 0), Q 1 τ))) ∧ (∀ (c53 : l6 < l4), (0 ≤ l6 ∧ l6 < 80000) ∧ ∀ (r63 : -128 ≤ τ.2 25 l6 ∧ τ.2 25 l6 < 128), w_put (τ.2 25 l6) τ (fun τ64 => W_message_49 l2 l4 l5 ((l6 + 1)) τ64 Q))) : W_message_49 l2 l4 l5 l6 τ Q := sorry
set_option maxHeartbeats 2000000 in
theorem s_message_192 {l2 l6 l7 : Int} {τ : TT} {Q : Int → TT → Prop} (hB : (-2147483648 ≤ l7 ∧ l7 < 2147483648) ∧ (∀ (c194 : l7 < 0), W_message_226 l2 l6 τ Q) ∧ (∀ (c194 : 0 ≤ l7), ∀ (r198 : -2147483648 ≤ τ.1 55 ∧ τ.1 55 < 2147483648), (-2147483648 ≤ (l7 + 1) ∧ (l7 + 1) < 2147483648) ∧ (∀ (c205 : ¬ (τ.1 55) = (l7 + 1)), W_message_226 l2 l6 τ Q) ∧ (∀ (c205 : (τ.1 55) = (l7 + 1)), (0 ≤ l7 ∧ l7 < 2000) ∧ ∀ (r214 : -128 ≤ τ.2 45 l7 ∧ τ.2 45 l7 < 128), (∀ (c217 : ¬ (τ.2 45 l7) = 10), W_message_226 l2 l6 τ Q) ∧ (∀ (c217 : (τ.2 45 l7) = 10), W_message_226 l2 l6 (τ.s 55 l7) Q)))) : W_message_192 l2 l6 l7 τ Q := sorry
set_option maxHeartbeats 2000000 in
theorem s_message_146 {l2 l4 l6 l7 l9 l10 : Int} {τ : TT} {Q : Int → TT → Prop} (hB : (-2147483648 ≤ l6 ∧ l6 < 2147483648) ∧ (-2147483648 ≤ l2 ∧ l2 < 2147483648) ∧ (∀ (c149 : ¬ l6 = l2), W_message_166 l2 l4 l6 l7 l9 l10 τ Q) ∧ (∀ (c149 : l6 = l2), ∀ (r153 : -2147483648 ≤ τ.1 55 ∧ τ.1 55 < 2147483648), w_line l9 l10 τ (fun τ163 => W_message_166 l2 l4 l6 ((τ.1 55)) l9 l10 τ163 Q))) : W_message_146 l2 l4 l6 l7 l9 l10 τ Q := sorry
set_option maxHeartbeats 2000000 in
theorem s_message_166 {l2 l4 l6 l7 l9 l10 : Int} {τ : TT} {Q : Int → TT → Prop} (hB : (0 ≤ l9 ∧ l9 < 80000) ∧ ∀ (r172 : -128 ≤ τ.2 25 l9 ∧ τ.2 25 l9 < 128), (∀ (c175 : ¬ (τ.2 25 l9) = 10), W_message_183 l2 l4 l6 l7 l10 0 τ Q) ∧ (∀ (c175 : (τ.2 25 l9) = 10), W_message_183 l2 l4 l6 l7 l10 1 τ Q)) : W_message_166 l2 l4 l6 l7 l9 l10 τ Q := sorry
set_option maxHeartbeats 2000000 in
theorem s_message_226 {l2 l6 : Int} {τ : TT} {Q : Int → TT → Prop} (hB : (-2147483648 ≤ l6 ∧ l6 < 2147483648) ∧ (-2147483648 ≤ l2 ∧ l2 < 2147483648) ∧ (∀ (c229 : l6 < l2), Q 0 τ) ∧ (∀ (c229 : l2 ≤ l6), Q 1 τ)) : W_message_226 l2 l6 τ Q := sorry
set_option maxHeartbeats 2000000 in
theorem s_message_183 {l2 l4 l6 l7 l10 s0 : Int} {τ : TT} {Q : Int → TT → Prop} (hB : W_message_101 l2 l4 l6 l7 s0 l10 τ Q) : W_message_183 l2 l4 l6 l7 l10 s0 τ Q := sorry
def w_messages (l1 : Int) (τ : TT) (Q : Int → TT → Prop) : Prop := Hid (TC yX11_messages cX11_messages 3 (some .int) 3 (rI Q) (fun o => [(2, o), (0, l1)]) τ)
def W_messages_2 (l1 l2 : Int) (τ : TT) (Q : Int → TT → Prop) : Prop := Hid (TJ cX11_messages 3 (some .int) 3 (rI Q) 2 (fun o => [(2, o), (0, l1), (0, l2)]) (fun o => []) τ)
set_option maxHeartbeats 2000000 in
theorem s_messages {l1 : Int} {τ : TT} {Q : Int → TT → Prop} (hB : W_messages_2 l1 0 τ Q) : w_messages l1 τ Q := sorry
set_option maxHeartbeats 2000000 in
theorem s_messages_2 {l1 l2 : Int} {τ : TT} {Q : Int → TT → Prop} (hB : w_message l1 l2 τ (fun x5 τ5 => ∀ (r5 : x5 = 0 ∨ x5 = 1), (∀ (c8 : x5 = 0), (-2147483648 ≤ l2 ∧ l2 < 2147483648) ∧ Q l2 τ5) ∧ (∀ (c8 : ¬ x5 = 0), W_messages_2 l1 ((l2 + 1)) τ5 Q))) : W_messages_2 l1 l2 τ Q := sorry
def w_find (l1 l2 l3 : Int) (τ : TT) (Q : Int → TT → Prop) : Prop := Hid (TC yX11_find cX11_find 6 (some .int) 1 (rI Q) (fun o => [(2, o), (2, o + l1), (0, l2), (0, l3)]) τ)
def W_find_3 (l1 l2 l3 l4 : Int) (τ : TT) (Q : Int → TT → Prop) : Prop := Hid (TJ cX11_find 6 (some .int) 1 (rI Q) 3 (fun o => [(2, o), (2, o + l1), (0, l2), (0, l3), (0, l4), vN]) (fun o => []) τ)
set_option maxHeartbeats 2000000 in
theorem s_find {l1 l2 l3 : Int} {τ : TT} {Q : Int → TT → Prop} (hB : W_find_3 l1 l2 l3 0 τ Q) : w_find l1 l2 l3 τ Q := sorry
set_option maxHeartbeats 2000000 in
theorem s_find_3 {l1 l2 l3 l4 : Int} {τ : TT} {Q : Int → TT → Prop} (hB : ∀ (r6 : -2147483648 ≤ τ.1 19 ∧ τ.1 19 < 2147483648), (-2147483648 ≤ l4 ∧ l4 < 2147483648) ∧ (∀ (c9 : (τ.1 19) ≤ l4), Q ((-1) - (τ.1 19)) τ) ∧ (∀ (c9 : l4 < (τ.1 19)), (0 ≤ l4 ∧ l4 < 40) ∧ ∀ (r27 : -2147483648 ≤ τ.2 19 l4 ∧ τ.2 19 l4 < 2147483648), w_compare 17 (40 * l4) (τ.2 19 l4) l1 l2 l3 τ (fun x31 τ31 => ∀ (r31 : -2147483648 ≤ x31 ∧ x31 < 2147483648), (∀ (c38 : ¬ x31 = 0), (∀ (c46 : x31 ≤ 0), W_find_3 l1 l2 l3 ((l4 + 1)) τ31 Q) ∧ (∀ (c46 : 0 < x31), (-2147483648 ≤ ((-1) - l4) ∧ ((-1) - l4) < 2147483648) ∧ Q ((-1) - l4) τ31)) ∧ (∀ (c38 : x31 = 0), Q l4 τ31)))) : W_find_3 l1 l2 l3 l4 τ Q := sorry
def w_look (τ : TT) (Q : TT → Prop) : Prop := Hid (TC yX11_look cX11_look 3 none 2 (rU Q) (fun o => [(2, o)]) τ)
def W_look_2 (l1 : Int) (τ : TT) (Q : TT → Prop) : Prop := Hid (TJ cX11_look 3 none 2 (rU Q) 2 (fun o => [(2, o), (0, l1), vN]) (fun o => []) τ)
def W_look_23 (l1 : Int) (τ : TT) (Q : TT → Prop) : Prop := Hid (TJ cX11_look 3 none 2 (rU Q) 23 (fun o => [(2, o), (0, l1), vN]) (fun o => []) τ)
def W_look_94 (l1 : Int) (τ : TT) (Q : TT → Prop) : Prop := Hid (TJ cX11_look 3 none 2 (rU Q) 94 (fun o => [(2, o), (0, l1), vN]) (fun o => []) τ)
def W_look_83 (l1 s0 s1 : Int) (τ : TT) (Q : TT → Prop) : Prop := Hid (TJ cX11_look 3 none 2 (rU Q) 83 (fun o => [(2, o), (0, l1), vN]) (fun o => [(0, s0), (0, s1), (2, o + 46)]) τ)
def W_look_84 (l1 s0 s1 s2 : Int) (τ : TT) (Q : TT → Prop) : Prop := Hid (TJ cX11_look 3 none 2 (rU Q) 84 (fun o => [(2, o), (0, l1), vN]) (fun o => [(0, s0), (0, s1), (0, s2), (2, o + 46)]) τ)
def W_look_171 (l1 s0 : Int) (τ : TT) (Q : TT → Prop) : Prop := Hid (TJ cX11_look 3 none 2 (rU Q) 171 (fun o => [(2, o), (0, l1), vN]) (fun o => [(0, s0), (2, o + 46)]) τ)
set_option maxHeartbeats 2000000 in
theorem s_look {τ : TT} {Q : TT → Prop} (hB : W_look_2 0 τ Q) : w_look  τ Q := sorry
set_option maxHeartbeats 2000000 in
theorem s_look_2 {l1 : Int} {τ : TT} {Q : TT → Prop} (hB : (-2147483648 ≤ l1 ∧ l1 < 2147483648) ∧ (∀ (c5 : 9 ≤ l1), W_look_23 0 τ Q) ∧ (∀ (c5 : l1 < 9), (0 ≤ l1 ∧ l1 < 9) ∧ W_look_2 ((l1 + 1)) (τ.a 46 l1 0) Q)) : W_look_2 l1 τ Q := sorry
set_option maxHeartbeats 2000000 in
theorem s_look_23 {l1 : Int} {τ : TT} {Q : TT → Prop} (hB : ∀ (r25 : -2147483648 ≤ τ.1 20 ∧ τ.1 20 < 2147483648), (-2147483648 ≤ l1 ∧ l1 < 2147483648) ∧ (∀ (c28 : (τ.1 20) ≤ l1), W_look_94 0 τ Q) ∧ (∀ (c28 : l1 < (τ.1 20)), ∀ (r37 : -2147483648 ≤ τ.2 46 0 ∧ τ.2 46 0 < 2147483648), (0 ≤ l1 ∧ l1 < 40) ∧ ∀ (r51 : -2147483648 ≤ τ.2 20 l1 ∧ τ.2 20 l1 < 2147483648), w_sort 18 (40 * l1) (τ.2 20 l1) τ (fun x52 τ52 => ∀ (r52 : -2147483648 ≤ x52 ∧ x52 < 2147483648), (∀ (c55 : x52 ≤ 0), W_look_83 l1 ((τ.2 46 0)) 0 τ52 Q) ∧ (∀ (c55 : 0 < x52), ∀ (r72 : -2147483648 ≤ τ52.2 20 l1 ∧ τ52.2 20 l1 < 2147483648), w_find 18 (40 * l1) (τ52.2 20 l1) τ52 (fun x73 τ73 => ∀ (r73 : -2147483648 ≤ x73 ∧ x73 < 2147483648), (∀ (c76 : 0 ≤ x73), W_look_83 l1 ((τ.2 46 0)) 0 τ73 Q) ∧ (∀ (c76 : x73 < 0), W_look_84 l1 1 ((τ.2 46 0)) 0 τ73 Q)))))) : W_look_23 l1 τ Q := sorry
set_option maxHeartbeats 2000000 in
theorem s_look_94 {l1 : Int} {τ : TT} {Q : TT → Prop} (hB : ∀ (r96 : -2147483648 ≤ τ.1 19 ∧ τ.1 19 < 2147483648), (-2147483648 ≤ l1 ∧ l1 < 2147483648) ∧ (∀ (c99 : (τ.1 19) ≤ l1), Q τ) ∧ (∀ (c99 : l1 < (τ.1 19)), (0 ≤ l1 ∧ l1 < 40) ∧ ∀ (r115 : -2147483648 ≤ τ.2 19 l1 ∧ τ.2 19 l1 < 2147483648), w_sort 17 (40 * l1) (τ.2 19 l1) τ (fun x116 τ116 => ∀ (r116 : -2147483648 ≤ x116 ∧ x116 < 2147483648), (∀ (c119 : ¬ x116 = 0), ∀ (r139 : -2147483648 ≤ τ116.2 19 l1 ∧ τ116.2 19 l1 < 2147483648), w_findOld 17 (40 * l1) (τ116.2 19 l1) τ116 (fun x140 τ140 => ∀ (r140 : -2147483648 ≤ x140 ∧ x140 < 2147483648), (∀ (c150 : ¬ x140 = (-1)), w_isSame l1 x140 τ140 (fun x160 τ160 => ∀ (r160 : x160 = 0 ∨ x160 = 1), (∀ (c163 : x160 = 0), W_look_171 l1 1 τ160 Q) ∧ (∀ (c163 : ¬ x160 = 0), W_look_171 l1 3 τ160 Q))) ∧ (∀ (c150 : x140 = (-1)), W_look_171 l1 2 τ140 Q))) ∧ (∀ (c119 : x116 = 0), W_look_94 ((l1 + 1)) τ116 Q)))) : W_look_94 l1 τ Q := sorry
set_option maxHeartbeats 2000000 in
theorem s_look_83 {l1 s0 s1 : Int} {τ : TT} {Q : TT → Prop} (hB : W_look_84 l1 0 s0 s1 τ Q) : W_look_83 l1 s0 s1 τ Q := sorry
set_option maxHeartbeats 2000000 in
theorem s_look_84 {l1 s0 s1 s2 : Int} {τ : TT} {Q : TT → Prop} (hB : (0 ≤ s2 ∧ s2 < 9) ∧ (-2147483648 ≤ (s1 + s0) ∧ (s1 + s0) < 2147483648) ∧ W_look_23 ((l1 + 1)) (τ.a 46 s2 (s1 + s0)) Q) : W_look_84 l1 s0 s1 s2 τ Q := sorry
set_option maxHeartbeats 2000000 in
theorem s_look_171 {l1 s0 : Int} {τ : TT} {Q : TT → Prop} (hB : (0 ≤ s0 ∧ s0 < 9) ∧ ∀ (r172 : -2147483648 ≤ τ.2 46 s0 ∧ τ.2 46 s0 < 2147483648), (-2147483648 ≤ ((τ.2 46 s0) + 1) ∧ ((τ.2 46 s0) + 1) < 2147483648) ∧ W_look_94 ((l1 + 1)) (τ.a 46 s0 ((τ.2 46 s0) + 1)) Q) : W_look_171 l1 s0 τ Q := sorry
def w_hasPlace (l1 : Int) (τ : TT) (Q : Int → TT → Prop) : Prop := Hid (TC yX11_hasPlace cX11_hasPlace 3 (some .boolean) 0 (rZ Q) (fun o => [(2, o), (0, l1)]) τ)
def W_hasPlace_2 (l1 l2 : Int) (τ : TT) (Q : Int → TT → Prop) : Prop := Hid (TJ cX11_hasPlace 3 (some .boolean) 0 (rZ Q) 2 (fun o => [(2, o), (0, l1), (0, l2)]) (fun o => []) τ)
set_option maxHeartbeats 2000000 in
theorem s_hasPlace {l1 : Int} {τ : TT} {Q : Int → TT → Prop} (hB : W_hasPlace_2 l1 0 τ Q) : w_hasPlace l1 τ Q := sorry
set_option maxHeartbeats 2000000 in
theorem s_hasPlace_2 {l1 l2 : Int} {τ : TT} {Q : Int → TT → Prop} (hB : ∀ (r4 : -2147483648 ≤ τ.1 46 ∧ τ.1 46 < 2147483648), (-2147483648 ≤ l2 ∧ l2 < 2147483648) ∧ (∀ (c7 : (τ.1 46) ≤ l2), Q 0 τ) ∧ (∀ (c7 : l2 < (τ.1 46)), (0 ≤ l2 ∧ l2 < 8200) ∧ ∀ (r15 : -2147483648 ≤ τ.2 41 l2 ∧ τ.2 41 l2 < 2147483648), (-2147483648 ≤ l1 ∧ l1 < 2147483648) ∧ (∀ (c17 : ¬ (τ.2 41 l2) = l1), W_hasPlace_2 l1 ((l2 + 1)) τ Q) ∧ (∀ (c17 : (τ.2 41 l2) = l1), Q 1 τ))) : W_hasPlace_2 l1 l2 τ Q := sorry
def w_clean (τ : TT) (Q : TT → Prop) : Prop := Hid (TC yX11_clean cX11_clean 5 none 2 (rU Q) (fun o => [(2, o)]) τ)
def W_clean_15 (l1 : Int) (τ : TT) (Q : TT → Prop) : Prop := Hid (TJ cX11_clean 5 none 2 (rU Q) 15 (fun o => [(2, o), (0, l1), vN, vN, vN]) (fun o => []) τ)
def W_clean_66 (l1 l2 l3 : Int) (τ : TT) (Q : TT → Prop) : Prop := Hid (TJ cX11_clean 5 none 2 (rU Q) 66 (fun o => [(2, o), (0, l1), (0, l2), (0, l3), vN]) (fun o => []) τ)
def W_clean_67 (l1 l2 l3 s0 : Int) (τ : TT) (Q : TT → Prop) : Prop := Hid (TJ cX11_clean 5 none 2 (rU Q) 67 (fun o => [(2, o), (0, l1), (0, l2), (0, l3), vN]) (fun o => [(0, s0)]) τ)
def W_clean_103 (l1 l3 l4 s0 s1 : Int) (τ : TT) (Q : TT → Prop) : Prop := Hid (TJ cX11_clean 5 none 2 (rU Q) 103 (fun o => [(2, o), (0, l1), vN, (0, l3), (0, l4)]) (fun o => [(0, s0), (0, s1), (2, o + 44)]) τ)
set_option maxHeartbeats 2000000 in
theorem s_clean {τ : TT} {Q : TT → Prop} (hB : ∀ (r2 : -2147483648 ≤ τ.1 46 ∧ τ.1 46 < 2147483648), W_clean_15 0 ((τ.s 47 (τ.1 46)).s 46 0) Q) : w_clean  τ Q := sorry
set_option maxHeartbeats 2000000 in
theorem s_clean_15 {l1 : Int} {τ : TT} {Q : TT → Prop} (hB : ∀ (r17 : -2147483648 ≤ τ.1 47 ∧ τ.1 47 < 2147483648), (-2147483648 ≤ l1 ∧ l1 < 2147483648) ∧ (∀ (c20 : (τ.1 47) ≤ l1), Q τ) ∧ (∀ (c20 : l1 < (τ.1 47)), (0 ≤ l1 ∧ l1 < 8200) ∧ ∀ (r28 : -2147483648 ≤ τ.2 39 l1 ∧ τ.2 39 l1 < 2147483648), (0 ≤ (τ.2 39 l1) ∧ (τ.2 39 l1) < 40) ∧ ∀ (r44 : -2147483648 ≤ τ.2 20 (τ.2 39 l1) ∧ τ.2 20 (τ.2 39 l1) < 2147483648), w_find 18 (40 * (τ.2 39 l1)) (τ.2 20 (τ.2 39 l1)) τ (fun x45 τ45 => ∀ (r45 : -2147483648 ≤ x45 ∧ x45 < 2147483648), (∀ (c50 : x45 < 0), W_clean_66 l1 ((τ.2 39 l1)) x45 τ45 Q) ∧ (∀ (c50 : 0 ≤ x45), w_isSame x45 (τ.2 39 l1) τ45 (fun x56 τ56 => ∀ (r56 : x56 = 0 ∨ x56 = 1), (∀ (c59 : x56 = 0), W_clean_66 l1 ((τ.2 39 l1)) x45 τ56 Q) ∧ (∀ (c59 : ¬ x56 = 0), W_clean_67 l1 ((τ.2 39 l1)) x45 1 τ56 Q)))))) : W_clean_15 l1 τ Q := sorry
set_option maxHeartbeats 2000000 in
theorem s_clean_66 {l1 l2 l3 : Int} {τ : TT} {Q : TT → Prop} (hB : W_clean_67 l1 l2 l3 0 τ Q) : W_clean_66 l1 l2 l3 τ Q := sorry
set_option maxHeartbeats 2000000 in
theorem s_clean_67 {l1 l2 l3 s0 : Int} {τ : TT} {Q : TT → Prop} (hB : (0 ≤ l1 ∧ l1 < 8200) ∧ ∀ (r79 : -2147483648 ≤ τ.2 41 l1 ∧ τ.2 41 l1 < 2147483648), (-2147483648 ≤ l2 ∧ l2 < 2147483648) ∧ (-2147483648 ≤ s0 ∧ s0 < 2147483648) ∧ (∀ (c95 : ¬ s0 = 0), W_clean_103 l1 l3 s0 0 l1 ((τ.a 43 l1 (τ.2 41 l1)).a 42 l1 l2) Q) ∧ (∀ (c95 : s0 = 0), W_clean_103 l1 l3 s0 1 l1 ((τ.a 43 l1 (τ.2 41 l1)).a 42 l1 l2) Q)) : W_clean_67 l1 l2 l3 s0 τ Q := sorry
set_option maxHeartbeats 2000000 in
theorem s_clean_103 {l1 l3 l4 s0 s1 : Int} {τ : TT} {Q : TT → Prop} (hB : (0 ≤ s1 ∧ s1 < 8200) ∧ (0 ≤ s0 ∧ s0 < 2) ∧ (-2147483648 ≤ l4 ∧ l4 < 2147483648) ∧ (∀ (c106 : ¬ l4 = 0), ∀ (r117 : -2147483648 ≤ τ.1 46 ∧ τ.1 46 < 2147483648), (0 ≤ (τ.1 46) ∧ (τ.1 46) < 8200) ∧ (-2147483648 ≤ l3 ∧ l3 < 2147483648) ∧ (0 ≤ l1 ∧ l1 < 8200) ∧ ∀ (r135 : -2147483648 ≤ τ.2 40 l1 ∧ τ.2 40 l1 < 2147483648), ∀ (r150 : -2147483648 ≤ τ.2 41 l1 ∧ τ.2 41 l1 < 2147483648), (-2147483648 ≤ ((τ.1 46) + 1) ∧ ((τ.1 46) + 1) < 2147483648) ∧ W_clean_15 ((l1 + 1)) (((((τ.a 44 s1 s0).a 39 (τ.1 46) l3).a 40 (τ.1 46) (τ.2 40 l1)).a 41 (τ.1 46) (τ.2 41 l1)).s 46 ((τ.1 46) + 1)) Q) ∧ (∀ (c106 : l4 = 0), W_clean_15 ((l1 + 1)) (τ.a 44 s1 s0) Q)) : W_clean_103 l1 l3 l4 s0 s1 τ Q := sorry
def w_small (l0 : Int) (τ : TT) (Q : Int → TT → Prop) : Prop := Hid (TC yX11_small cX11_small 1 (some .int) 0 (rI Q) (fun o => [(0, l0)]) τ)
set_option maxHeartbeats 2000000 in
theorem s_small {l0 : Int} {τ : TT} {Q : Int → TT → Prop} (hB : (-2147483648 ≤ l0 ∧ l0 < 2147483648) ∧ (∀ (c3 : l0 < 65), Q l0 τ) ∧ (∀ (c3 : 65 ≤ l0), (∀ (c9 : 90 < l0), Q l0 τ) ∧ (∀ (c9 : l0 ≤ 90), (-2147483648 ≤ (l0 + 32) ∧ (l0 + 32) < 2147483648) ∧ Q (l0 + 32) τ))) : w_small l0 τ Q := sorry
def w_isId (l1 l2 : Int) (τ : TT) (Q : Int → TT → Prop) : Prop := Hid (TC yX11_isId cX11_isId 3 (some .boolean) 1 (rZ Q) (fun o => [(2, o), (0, l1), (0, l2)]) τ)
set_option maxHeartbeats 2000000 in
theorem s_isId {l1 l2 : Int} {τ : TT} {Q : Int → TT → Prop} (hB : (-2147483648 ≤ (l2 - l1) ∧ (l2 - l1) < 2147483648) ∧ (∀ (c5 : 11 ≤ (l2 - l1)), (0 ≤ l1 ∧ l1 < 2000) ∧ ∀ (r15 : -128 ≤ τ.2 45 l1 ∧ τ.2 45 l1 < 128), w_small (τ.2 45 l1) τ (fun x16 τ16 => ∀ (r16 : -2147483648 ≤ x16 ∧ x16 < 2147483648), (∀ (c21 : ¬ x16 = 109), Q 0 τ16) ∧ (∀ (c21 : x16 = 109), (0 ≤ (l1 + 1) ∧ (l1 + 1) < 2000) ∧ ∀ (r31 : -128 ≤ τ16.2 45 (l1 + 1) ∧ τ16.2 45 (l1 + 1) < 128), w_small (τ16.2 45 (l1 + 1)) τ16 (fun x32 τ32 => ∀ (r32 : -2147483648 ≤ x32 ∧ x32 < 2147483648), (∀ (c37 : ¬ x32 = 101), Q 0 τ32) ∧ (∀ (c37 : x32 = 101), (0 ≤ (l1 + 2) ∧ (l1 + 2) < 2000) ∧ ∀ (r47 : -128 ≤ τ32.2 45 (l1 + 2) ∧ τ32.2 45 (l1 + 2) < 128), w_small (τ32.2 45 (l1 + 2)) τ32 (fun x48 τ48 => ∀ (r48 : -2147483648 ≤ x48 ∧ x48 < 2147483648), (∀ (c53 : ¬ x48 = 115), Q 0 τ48) ∧ (∀ (c53 : x48 = 115), (0 ≤ (l1 + 3) ∧ (l1 + 3) < 2000) ∧ ∀ (r63 : -128 ≤ τ48.2 45 (l1 + 3) ∧ τ48.2 45 (l1 + 3) < 128), w_small (τ48.2 45 (l1 + 3)) τ48 (fun x64 τ64 => ∀ (r64 : -2147483648 ≤ x64 ∧ x64 < 2147483648), (∀ (c69 : ¬ x64 = 115), Q 0 τ64) ∧ (∀ (c69 : x64 = 115), (0 ≤ (l1 + 4) ∧ (l1 + 4) < 2000) ∧ ∀ (r79 : -128 ≤ τ64.2 45 (l1 + 4) ∧ τ64.2 45 (l1 + 4) < 128), w_small (τ64.2 45 (l1 + 4)) τ64 (fun x80 τ80 => ∀ (r80 : -2147483648 ≤ x80 ∧ x80 < 2147483648), (∀ (c85 : ¬ x80 = 97), Q 0 τ80) ∧ (∀ (c85 : x80 = 97), (0 ≤ (l1 + 5) ∧ (l1 + 5) < 2000) ∧ ∀ (r95 : -128 ≤ τ80.2 45 (l1 + 5) ∧ τ80.2 45 (l1 + 5) < 128), w_small (τ80.2 45 (l1 + 5)) τ80 (fun x96 τ96 => ∀ (r96 : -2147483648 ≤ x96 ∧ x96 < 2147483648), (∀ (c101 : ¬ x96 = 103), Q 0 τ96) ∧ (∀ (c101 : x96 = 103), (0 ≤ (l1 + 6) ∧ (l1 + 6) < 2000) ∧ ∀ (r112 : -128 ≤ τ96.2 45 (l1 + 6) ∧ τ96.2 45 (l1 + 6) < 128), w_small (τ96.2 45 (l1 + 6)) τ96 (fun x113 τ113 => ∀ (r113 : -2147483648 ≤ x113 ∧ x113 < 2147483648), (∀ (c118 : ¬ x113 = 101), Q 0 τ113) ∧ (∀ (c118 : x113 = 101), (0 ≤ (l1 + 7) ∧ (l1 + 7) < 2000) ∧ ∀ (r129 : -128 ≤ τ113.2 45 (l1 + 7) ∧ τ113.2 45 (l1 + 7) < 128), (∀ (c132 : ¬ (τ113.2 45 (l1 + 7)) = 45), Q 0 τ113) ∧ (∀ (c132 : (τ113.2 45 (l1 + 7)) = 45), (0 ≤ (l1 + 8) ∧ (l1 + 8) < 2000) ∧ ∀ (r143 : -128 ≤ τ113.2 45 (l1 + 8) ∧ τ113.2 45 (l1 + 8) < 128), w_small (τ113.2 45 (l1 + 8)) τ113 (fun x144 τ144 => ∀ (r144 : -2147483648 ≤ x144 ∧ x144 < 2147483648), (∀ (c149 : ¬ x144 = 105), Q 0 τ144) ∧ (∀ (c149 : x144 = 105), (0 ≤ (l1 + 9) ∧ (l1 + 9) < 2000) ∧ ∀ (r160 : -128 ≤ τ144.2 45 (l1 + 9) ∧ τ144.2 45 (l1 + 9) < 128), w_small (τ144.2 45 (l1 + 9)) τ144 (fun x161 τ161 => ∀ (r161 : -2147483648 ≤ x161 ∧ x161 < 2147483648), (∀ (c166 : ¬ x161 = 100), Q 0 τ161) ∧ (∀ (c166 : x161 = 100), (0 ≤ (l1 + 10) ∧ (l1 + 10) < 2000) ∧ ∀ (r177 : -128 ≤ τ161.2 45 (l1 + 10) ∧ τ161.2 45 (l1 + 10) < 128), (∀ (c180 : ¬ (τ161.2 45 (l1 + 10)) = 58), Q 0 τ161) ∧ (∀ (c180 : (τ161.2 45 (l1 + 10)) = 58), Q 1 τ161))))))))))))))))))))) ∧ (∀ (c5 : (l2 - l1) < 11), Q 0 τ)) : w_isId l1 l2 τ Q := sorry
def w_between (l1 l2 : Int) (τ : TT) (Q : TT → Prop) : Prop := Hid (TC yX11_between cX11_between 6 none 0 (rU Q) (fun o => [(2, o), (0, l1), (0, l2)]) τ)
def W_between_2 (l2 l3 : Int) (τ : TT) (Q : TT → Prop) : Prop := Hid (TJ cX11_between 6 none 0 (rU Q) 2 (fun o => [(2, o), vN, (0, l2), (0, l3), vN, vN]) (fun o => []) τ)
def W_between_24 (l2 l3 : Int) (τ : TT) (Q : TT → Prop) : Prop := Hid (TJ cX11_between 6 none 0 (rU Q) 24 (fun o => [(2, o), vN, (0, l2), (0, l3), vN, vN]) (fun o => []) τ)
def W_between_32 (l2 l3 l4 l5 : Int) (τ : TT) (Q : TT → Prop) : Prop := Hid (TJ cX11_between 6 none 0 (rU Q) 32 (fun o => [(2, o), vN, (0, l2), (0, l3), (0, l4), (0, l5)]) (fun o => []) τ)
def W_between_80 (l2 l3 l4 l5 : Int) (τ : TT) (Q : TT → Prop) : Prop := Hid (TJ cX11_between 6 none 0 (rU Q) 80 (fun o => [(2, o), vN, (0, l2), (0, l3), (0, l4), (0, l5)]) (fun o => []) τ)
def W_between_71 (l2 l3 l4 : Int) (τ : TT) (Q : TT → Prop) : Prop := Hid (TJ cX11_between 6 none 0 (rU Q) 71 (fun o => [(2, o), vN, (0, l2), (0, l3), (0, l4), vN]) (fun o => []) τ)
set_option maxHeartbeats 2000000 in
theorem s_between {l1 l2 : Int} {τ : TT} {Q : TT → Prop} (hB : W_between_2 l2 l1 τ Q) : w_between l1 l2 τ Q := sorry
set_option maxHeartbeats 2000000 in
theorem s_between_2 {l2 l3 : Int} {τ : TT} {Q : TT → Prop} (hB : (-2147483648 ≤ l3 ∧ l3 < 2147483648) ∧ (-2147483648 ≤ l2 ∧ l2 < 2147483648) ∧ (∀ (c4 : l2 ≤ l3), W_between_24 l2 l3 τ Q) ∧ (∀ (c4 : l3 < l2), (0 ≤ l3 ∧ l3 < 2000) ∧ ∀ (r12 : -128 ≤ τ.2 45 l3 ∧ τ.2 45 l3 < 128), (∀ (c15 : (τ.2 45 l3) = 60), W_between_24 l2 l3 τ Q) ∧ (∀ (c15 : ¬ (τ.2 45 l3) = 60), W_between_2 l2 ((l3 + 1)) τ Q))) : W_between_2 l2 l3 τ Q := sorry
set_option maxHeartbeats 2000000 in
theorem s_between_24 {l2 l3 : Int} {τ : TT} {Q : TT → Prop} (hB : W_between_32 l2 l3 ((l3 + 1)) 1 τ Q) : W_between_24 l2 l3 τ Q := sorry
set_option maxHeartbeats 2000000 in
theorem s_between_32 {l2 l3 l4 l5 : Int} {τ : TT} {Q : TT → Prop} (hB : (-2147483648 ≤ l4 ∧ l4 < 2147483648) ∧ (-2147483648 ≤ l2 ∧ l2 < 2147483648) ∧ (∀ (c35 : l2 ≤ l4), W_between_80 l2 l3 l4 l5 τ Q) ∧ (∀ (c35 : l4 < l2), (0 ≤ l4 ∧ l4 < 2000) ∧ ∀ (r44 : -128 ≤ τ.2 45 l4 ∧ τ.2 45 l4 < 128), (∀ (c47 : (τ.2 45 l4) = 62), W_between_80 l2 l3 l4 l5 τ Q) ∧ (∀ (c47 : ¬ (τ.2 45 l4) = 62), (-2147483648 ≤ l5 ∧ l5 < 2147483648) ∧ (∀ (c52 : l5 = 0), W_between_71 l2 l3 l4 τ Q) ∧ (∀ (c52 : ¬ l5 = 0), ∀ (r61 : -128 ≤ τ.2 45 l4 ∧ τ.2 45 l4 < 128), (∀ (c64 : (τ.2 45 l4) = 32), W_between_71 l2 l3 l4 τ Q) ∧ (∀ (c64 : ¬ (τ.2 45 l4) = 32), W_between_32 l2 l3 ((l4 + 1)) 1 τ Q))))) : W_between_32 l2 l3 l4 l5 τ Q := sorry
set_option maxHeartbeats 2000000 in
theorem s_between_80 {l2 l3 l4 l5 : Int} {τ : TT} {Q : TT → Prop} (hB : (-2147483648 ≤ l4 ∧ l4 < 2147483648) ∧ (-2147483648 ≤ l2 ∧ l2 < 2147483648) ∧ (∀ (c83 : l2 ≤ l4), Q τ) ∧ (∀ (c83 : l4 < l2), (-2147483648 ≤ l5 ∧ l5 < 2147483648) ∧ (∀ (c88 : l5 = 0), Q τ) ∧ (∀ (c88 : ¬ l5 = 0), (-2147483648 ≤ ((l4 - l3) - 1) ∧ ((l4 - l3) - 1) < 2147483648) ∧ (∀ (c98 : ((l4 - l3) - 1) < 1), Q τ) ∧ (∀ (c98 : 1 ≤ ((l4 - l3) - 1)), (∀ (c109 : ((l4 - l3) - 1) ≤ 40), (-2147483648 ≤ (l3 + 1) ∧ (l3 + 1) < 2147483648) ∧ Q ((τ.s 56 (l3 + 1)).s 57 ((l4 - l3) - 1))) ∧ (∀ (c109 : 40 < ((l4 - l3) - 1)), Q τ))))) : W_between_80 l2 l3 l4 l5 τ Q := sorry
set_option maxHeartbeats 2000000 in
theorem s_between_71 {l2 l3 l4 : Int} {τ : TT} {Q : TT → Prop} (hB : W_between_32 l2 l3 ((l4 + 1)) 0 τ Q) : W_between_71 l2 l3 l4 τ Q := sorry
def w_findKey (τ : TT) (Q : TT → Prop) : Prop := Hid (TC yX11_findKey cX11_findKey 4 none 2 (rU Q) (fun o => [(2, o)]) τ)
def W_findKey_9 (l1 l2 : Int) (τ : TT) (Q : TT → Prop) : Prop := Hid (TJ cX11_findKey 4 none 2 (rU Q) 9 (fun o => [(2, o), (0, l1), (0, l2), vN]) (fun o => []) τ)
def W_findKey_34 (l1 l3 : Int) (τ : TT) (Q : TT → Prop) : Prop := Hid (TJ cX11_findKey 4 none 2 (rU Q) 34 (fun o => [(2, o), (0, l1), vN, (0, l3)]) (fun o => []) τ)
def W_findKey_59 (l1 l3 : Int) (τ : TT) (Q : TT → Prop) : Prop := Hid (TJ cX11_findKey 4 none 2 (rU Q) 59 (fun o => [(2, o), (0, l1), vN, (0, l3)]) (fun o => []) τ)
def W_findKey_73 (l1 l3 s0 : Int) (τ : TT) (Q : TT → Prop) : Prop := Hid (TJ cX11_findKey 4 none 2 (rU Q) 73 (fun o => [(2, o), (0, l1), vN, (0, l3)]) (fun o => [(0, s0)]) τ)
def W_findKey_87 (l2 l3 : Int) (τ : TT) (Q : TT → Prop) : Prop := Hid (TJ cX11_findKey 4 none 2 (rU Q) 87 (fun o => [(2, o), vN, (0, l2), (0, l3)]) (fun o => []) τ)
set_option maxHeartbeats 2000000 in
theorem s_findKey {τ : TT} {Q : TT → Prop} (hB : W_findKey_9 0 1 (τ.s 57 0) Q) : w_findKey  τ Q := sorry
set_option maxHeartbeats 2000000 in
theorem s_findKey_9 {l1 l2 : Int} {τ : TT} {Q : TT → Prop} (hB : ∀ (r11 : -2147483648 ≤ τ.1 55 ∧ τ.1 55 < 2147483648), (-2147483648 ≤ l1 ∧ l1 < 2147483648) ∧ (∀ (c14 : (τ.1 55) ≤ l1), Q τ) ∧ (∀ (c14 : l1 < (τ.1 55)), (0 ≤ l1 ∧ l1 < 2000) ∧ ∀ (r22 : -128 ≤ τ.2 45 l1 ∧ τ.2 45 l1 < 128), (∀ (c25 : (τ.2 45 l1) = 10), Q τ) ∧ (∀ (c25 : ¬ (τ.2 45 l1) = 10), (-2147483648 ≤ l2 ∧ l2 < 2147483648) ∧ (∀ (c29 : l2 = 0), Q τ) ∧ (∀ (c29 : ¬ l2 = 0), W_findKey_34 l1 l1 τ Q)))) : W_findKey_9 l1 l2 τ Q := sorry
set_option maxHeartbeats 2000000 in
theorem s_findKey_34 {l1 l3 : Int} {τ : TT} {Q : TT → Prop} (hB : ∀ (r36 : -2147483648 ≤ τ.1 55 ∧ τ.1 55 < 2147483648), (-2147483648 ≤ l3 ∧ l3 < 2147483648) ∧ (∀ (c39 : (τ.1 55) ≤ l3), W_findKey_59 l1 l3 τ Q) ∧ (∀ (c39 : l3 < (τ.1 55)), (0 ≤ l3 ∧ l3 < 2000) ∧ ∀ (r47 : -128 ≤ τ.2 45 l3 ∧ τ.2 45 l3 < 128), (∀ (c50 : (τ.2 45 l3) = 10), W_findKey_59 l1 l3 τ Q) ∧ (∀ (c50 : ¬ (τ.2 45 l3) = 10), W_findKey_34 l1 ((l3 + 1)) τ Q))) : W_findKey_34 l1 l3 τ Q := sorry
set_option maxHeartbeats 2000000 in
theorem s_findKey_59 {l1 l3 : Int} {τ : TT} {Q : TT → Prop} (hB : w_isId l1 l3 τ (fun x62 τ62 => ∀ (r62 : x62 = 0 ∨ x62 = 1), (∀ (c65 : ¬ x62 = 0), W_findKey_73 l1 l3 0 τ62 Q) ∧ (∀ (c65 : x62 = 0), W_findKey_73 l1 l3 1 τ62 Q))) : W_findKey_59 l1 l3 τ Q := sorry
set_option maxHeartbeats 2000000 in
theorem s_findKey_73 {l1 l3 s0 : Int} {τ : TT} {Q : TT → Prop} (hB : (-2147483648 ≤ s0 ∧ s0 < 2147483648) ∧ (∀ (c75 : ¬ s0 = 0), W_findKey_87 s0 l3 τ Q) ∧ (∀ (c75 : s0 = 0), w_between (l1 + 11) l3 τ (fun τ84 => W_findKey_87 s0 l3 τ84 Q))) : W_findKey_73 l1 l3 s0 τ Q := sorry
set_option maxHeartbeats 2000000 in
theorem s_findKey_87 {l2 l3 : Int} {τ : TT} {Q : TT → Prop} (hB : W_findKey_9 ((l3 + 1)) l2 τ Q) : W_findKey_87 l2 l3 τ Q := sorry
def w_hasKey (l1 : Int) (τ : TT) (Q : Int → TT → Prop) : Prop := Hid (TC yX11_hasKey cX11_hasKey 2 (some .boolean) 1 (rZ Q) (fun o => [(2, o), (0, l1)]) τ)
set_option maxHeartbeats 2000000 in
theorem s_hasKey {l1 : Int} {τ : TT} {Q : Int → TT → Prop} (hB : (0 ≤ l1 ∧ l1 < 200) ∧ ∀ (r13 : -2147483648 ≤ τ.2 29 l1 ∧ τ.2 29 l1 < 2147483648), ∀ (r19 : -2147483648 ≤ τ.1 56 ∧ τ.1 56 < 2147483648), ∀ (r23 : -2147483648 ≤ τ.1 57 ∧ τ.1 57 < 2147483648), w_compare 27 (40 * l1) (τ.2 29 l1) 45 (τ.1 56) (τ.1 57) τ (fun x26 τ26 => ∀ (r26 : -2147483648 ≤ x26 ∧ x26 < 2147483648), (∀ (c29 : ¬ x26 = 0), Q 0 τ26) ∧ (∀ (c29 : x26 = 0), Q 1 τ26))) : w_hasKey l1 τ Q := sorry
def w_isVersion (l1 : Int) (τ : TT) (Q : Int → TT → Prop) : Prop := Hid (TC yX11_isVersion cX11_isVersion 2 (some .boolean) 1 (rZ Q) (fun o => [(2, o), (0, l1)]) τ)
set_option maxHeartbeats 2000000 in
theorem s_isVersion {l1 : Int} {τ : TT} {Q : Int → TT → Prop} (hB : (0 ≤ l1 ∧ l1 < 6000) ∧ ∀ (r9 : -2147483648 ≤ τ.2 36 l1 ∧ τ.2 36 l1 < 2147483648), ∀ (r15 : -2147483648 ≤ τ.2 37 l1 ∧ τ.2 37 l1 < 2147483648), ∀ (r22 : -2147483648 ≤ τ.1 55 ∧ τ.1 55 < 2147483648), w_compare 38 (τ.2 36 l1) (τ.2 37 l1) 45 0 (τ.1 55) τ (fun x25 τ25 => ∀ (r25 : -2147483648 ≤ x25 ∧ x25 < 2147483648), (∀ (c28 : ¬ x25 = 0), Q 0 τ25) ∧ (∀ (c28 : x25 = 0), Q 1 τ25))) : w_isVersion l1 τ Q := sorry
def w_version (τ : TT) (Q : Int → TT → Prop) : Prop := Hid (TC yX11_version cX11_version 3 (some .int) 2 (rI Q) (fun o => [(2, o)]) τ)
def W_version_2 (l1 : Int) (τ : TT) (Q : Int → TT → Prop) : Prop := Hid (TJ cX11_version 3 (some .int) 2 (rI Q) 2 (fun o => [(2, o), (0, l1), vN]) (fun o => []) τ)
def W_version_63 (l1 l2 : Int) (τ : TT) (Q : Int → TT → Prop) : Prop := Hid (TJ cX11_version 3 (some .int) 2 (rI Q) 63 (fun o => [(2, o), (0, l1), (0, l2)]) (fun o => []) τ)
set_option maxHeartbeats 2000000 in
theorem s_version {τ : TT} {Q : Int → TT → Prop} (hB : W_version_2 0 τ Q) : w_version  τ Q := sorry
set_option maxHeartbeats 2000000 in
theorem s_version_2 {l1 : Int} {τ : TT} {Q : Int → TT → Prop} (hB : ∀ (r4 : -2147483648 ≤ τ.1 41 ∧ τ.1 41 < 2147483648), (-2147483648 ≤ l1 ∧ l1 < 2147483648) ∧ (∀ (c7 : (τ.1 41) ≤ l1), (-2147483648 ≤ ((τ.1 41) + 1) ∧ ((τ.1 41) + 1) < 2147483648) ∧ ∀ (r47 : -2147483648 ≤ τ.1 42 ∧ τ.1 42 < 2147483648), (0 ≤ (τ.1 41) ∧ (τ.1 41) < 6000) ∧ ∀ (r57 : -2147483648 ≤ τ.1 55 ∧ τ.1 55 < 2147483648), W_version_63 ((τ.1 41)) 0 (((τ.s 41 ((τ.1 41) + 1)).a 36 (τ.1 41) (τ.1 42)).a 37 (τ.1 41) (τ.1 55)) Q) ∧ (∀ (c7 : l1 < (τ.1 41)), w_isVersion l1 τ (fun x12 τ12 => ∀ (r12 : x12 = 0 ∨ x12 = 1), (∀ (c15 : x12 = 0), W_version_2 ((l1 + 1)) τ12 Q) ∧ (∀ (c15 : ¬ x12 = 0), Q l1 τ12)))) : W_version_2 l1 τ Q := sorry
set_option maxHeartbeats 2000000 in
theorem s_version_63 {l1 l2 : Int} {τ : TT} {Q : Int → TT → Prop} (hB : ∀ (r65 : -2147483648 ≤ τ.1 55 ∧ τ.1 55 < 2147483648), (-2147483648 ≤ l2 ∧ l2 < 2147483648) ∧ (∀ (c68 : (τ.1 55) ≤ l2), ∀ (r96 : -2147483648 ≤ τ.1 42 ∧ τ.1 42 < 2147483648), (-2147483648 ≤ ((τ.1 42) + (τ.1 55)) ∧ ((τ.1 42) + (τ.1 55)) < 2147483648) ∧ (-2147483648 ≤ l1 ∧ l1 < 2147483648) ∧ Q l1 (τ.s 42 ((τ.1 42) + (τ.1 55)))) ∧ (∀ (c68 : l2 < (τ.1 55)), ∀ (r76 : -2147483648 ≤ τ.1 42 ∧ τ.1 42 < 2147483648), (0 ≤ l2 ∧ l2 < 2000) ∧ ∀ (r86 : -128 ≤ τ.2 45 l2 ∧ τ.2 45 l2 < 128), (0 ≤ ((τ.1 42) + l2) ∧ ((τ.1 42) + l2) < 220000) ∧ W_version_63 l1 ((l2 + 1)) (τ.a 38 ((τ.1 42) + l2) (τ.2 45 l2)) Q)) : W_version_63 l1 l2 τ Q := sorry
def w_mailOf (τ : TT) (Q : Int → TT → Prop) : Prop := Hid (TC yX11_mailOf cX11_mailOf 3 (some .int) 3 (rI Q) (fun o => [(2, o)]) τ)
def W_mailOf_2 (l1 : Int) (τ : TT) (Q : Int → TT → Prop) : Prop := Hid (TJ cX11_mailOf 3 (some .int) 3 (rI Q) 2 (fun o => [(2, o), (0, l1), vN]) (fun o => []) τ)
def W_mailOf_41 (l1 : Int) (τ : TT) (Q : Int → TT → Prop) : Prop := Hid (TJ cX11_mailOf 3 (some .int) 3 (rI Q) 41 (fun o => [(2, o), (0, l1), vN]) (fun o => []) τ)
def W_mailOf_110 (τ : TT) (Q : Int → TT → Prop) : Prop := Hid (TJ cX11_mailOf 3 (some .int) 3 (rI Q) 110 (fun o => [(2, o), vN, vN]) (fun o => []) τ)
def W_mailOf_137 (l1 l2 : Int) (τ : TT) (Q : Int → TT → Prop) : Prop := Hid (TJ cX11_mailOf 3 (some .int) 3 (rI Q) 137 (fun o => [(2, o), (0, l1), (0, l2)]) (fun o => []) τ)
set_option maxHeartbeats 2000000 in
theorem s_mailOf {τ : TT} {Q : Int → TT → Prop} (hB : W_mailOf_2 0 τ Q) : w_mailOf  τ Q := sorry
set_option maxHeartbeats 2000000 in
theorem s_mailOf_2 {l1 : Int} {τ : TT} {Q : Int → TT → Prop} (hB : ∀ (r4 : -2147483648 ≤ τ.1 31 ∧ τ.1 31 < 2147483648), (-2147483648 ≤ l1 ∧ l1 < 2147483648) ∧ (∀ (c7 : (τ.1 31) ≤ l1), W_mailOf_41 0 τ Q) ∧ (∀ (c7 : l1 < (τ.1 31)), w_hasKey l1 τ (fun x12 τ12 => ∀ (r12 : x12 = 0 ∨ x12 = 1), (∀ (c15 : x12 = 0), W_mailOf_2 ((l1 + 1)) τ12 Q) ∧ (∀ (c15 : ¬ x12 = 0), (0 ≤ l1 ∧ l1 < 200) ∧ ∀ (r24 : -2147483648 ≤ τ12.2 30 l1 ∧ τ12.2 30 l1 < 2147483648), w_isVersion (τ12.2 30 l1) τ12 (fun x25 τ25 => ∀ (r25 : x25 = 0 ∨ x25 = 1), (∀ (c28 : x25 = 0), W_mailOf_2 ((l1 + 1)) τ25 Q) ∧ (∀ (c28 : ¬ x25 = 0), Q l1 τ25)))))) : W_mailOf_2 l1 τ Q := sorry
set_option maxHeartbeats 2000000 in
theorem s_mailOf_41 {l1 : Int} {τ : TT} {Q : Int → TT → Prop} (hB : ∀ (r43 : -2147483648 ≤ τ.1 31 ∧ τ.1 31 < 2147483648), (-2147483648 ≤ l1 ∧ l1 < 2147483648) ∧ (∀ (c46 : (τ.1 31) ≤ l1), W_mailOf_110  τ Q) ∧ (∀ (c46 : l1 < (τ.1 31)), ∀ (r50 : -2147483648 ≤ τ.1 57 ∧ τ.1 57 < 2147483648), (∀ (c53 : (τ.1 57) ≤ 0), W_mailOf_110  τ Q) ∧ (∀ (c53 : 0 < (τ.1 57)), w_hasKey l1 τ (fun x58 τ58 => ∀ (r58 : x58 = 0 ∨ x58 = 1), (∀ (c61 : x58 = 0), W_mailOf_41 ((l1 + 1)) τ58 Q) ∧ (∀ (c61 : ¬ x58 = 0), w_hasPlace l1 τ58 (fun x66 τ66 => ∀ (r66 : x66 = 0 ∨ x66 = 1), (∀ (c69 : x66 = 0), w_version  τ66 (fun x81 τ81 => ∀ (r81 : -2147483648 ≤ x81 ∧ x81 < 2147483648), (0 ≤ l1 ∧ l1 < 200) ∧ ∀ (r98 : -2147483648 ≤ τ81.2 46 5 ∧ τ81.2 46 5 < 2147483648), (-2147483648 ≤ ((τ81.2 46 5) + 1) ∧ ((τ81.2 46 5) + 1) < 2147483648) ∧ Q l1 (((τ81.a 30 l1 x81).a 34 l1 1).a 46 5 ((τ81.2 46 5) + 1)))) ∧ (∀ (c69 : ¬ x66 = 0), W_mailOf_41 ((l1 + 1)) τ66 Q))))))) : W_mailOf_41 l1 τ Q := sorry
set_option maxHeartbeats 2000000 in
theorem s_mailOf_110 {τ : TT} {Q : Int → TT → Prop} (hB : ∀ (r111 : -2147483648 ≤ τ.1 31 ∧ τ.1 31 < 2147483648), (-2147483648 ≤ ((τ.1 31) + 1) ∧ ((τ.1 31) + 1) < 2147483648) ∧ ∀ (r131 : -2147483648 ≤ τ.1 57 ∧ τ.1 57 < 2147483648), (0 ≤ (τ.1 31) ∧ (τ.1 31) < 200) ∧ W_mailOf_137 ((τ.1 31)) 0 ((τ.s 31 ((τ.1 31) + 1)).a 29 (τ.1 31) (τ.1 57)) Q) : W_mailOf_110  τ Q := sorry
set_option maxHeartbeats 2000000 in
theorem s_mailOf_137 {l1 l2 : Int} {τ : TT} {Q : Int → TT → Prop} (hB : ∀ (r139 : -2147483648 ≤ τ.1 57 ∧ τ.1 57 < 2147483648), (-2147483648 ≤ l2 ∧ l2 < 2147483648) ∧ (∀ (c142 : (τ.1 57) ≤ l2), w_version  τ (fun x179 τ179 => ∀ (r179 : -2147483648 ≤ x179 ∧ x179 < 2147483648), (0 ≤ l1 ∧ l1 < 200) ∧ ∀ (r189 : -2147483648 ≤ τ179.2 46 4 ∧ τ179.2 46 4 < 2147483648), (-2147483648 ≤ ((τ179.2 46 4) + 1) ∧ ((τ179.2 46 4) + 1) < 2147483648) ∧ (-2147483648 ≤ l1 ∧ l1 < 2147483648) ∧ Q l1 ((τ179.a 30 l1 x179).a 46 4 ((τ179.2 46 4) + 1)))) ∧ (∀ (c142 : l2 < (τ.1 57)), ∀ (r160 : -2147483648 ≤ τ.1 56 ∧ τ.1 56 < 2147483648), (0 ≤ ((τ.1 56) + l2) ∧ ((τ.1 56) + l2) < 2000) ∧ ∀ (r165 : -128 ≤ τ.2 45 ((τ.1 56) + l2) ∧ τ.2 45 ((τ.1 56) + l2) < 128), (0 ≤ ((40 * l1) + l2) ∧ ((40 * l1) + l2) < 8000) ∧ W_mailOf_137 l1 ((l2 + 1)) (τ.a 27 ((40 * l1) + l2) (τ.2 45 ((τ.1 56) + l2))) Q)) : W_mailOf_137 l1 l2 τ Q := sorry
def w_readFile (l1 : Int) (τ : TT) (Q : Int → TT → Prop) : Prop := Hid (TC yX11_readFile cX11_readFile 4 (some .int) 4 (rI Q) (fun o => [(2, o), (0, l1)]) τ)
def W_readFile_2 (l1 l2 : Int) (τ : TT) (Q : Int → TT → Prop) : Prop := Hid (TJ cX11_readFile 4 (some .int) 4 (rI Q) 2 (fun o => [(2, o), (0, l1), (0, l2), vN]) (fun o => []) τ)
set_option maxHeartbeats 2000000 in
theorem s_readFile {l1 : Int} {τ : TT} {Q : Int → TT → Prop} (hB : W_readFile_2 l1 0 τ Q) : w_readFile l1 τ Q := sorry
set_option maxHeartbeats 2000000 in
theorem s_readFile_2 {l1 l2 : Int} {τ : TT} {Q : Int → TT → Prop} (hB : w_message l1 l2 τ (fun x5 τ5 => ∀ (r5 : x5 = 0 ∨ x5 = 1), (∀ (c8 : x5 = 0), (-2147483648 ≤ l2 ∧ l2 < 2147483648) ∧ Q l2 τ5) ∧ (∀ (c8 : ¬ x5 = 0), w_findKey  τ5 (fun τ12 => w_mailOf  τ12 (fun x16 τ16 => ∀ (r16 : -2147483648 ≤ x16 ∧ x16 < 2147483648), ∀ (r25 : -2147483648 ≤ τ16.1 46 ∧ τ16.1 46 < 2147483648), (0 ≤ (τ16.1 46) ∧ (τ16.1 46) < 8200) ∧ (-2147483648 ≤ l1 ∧ l1 < 2147483648) ∧ (-2147483648 ≤ l2 ∧ l2 < 2147483648) ∧ (-2147483648 ≤ ((τ16.1 46) + 1) ∧ ((τ16.1 46) + 1) < 2147483648) ∧ W_readFile_2 l1 ((l2 + 1)) ((((τ16.a 39 (τ16.1 46) l1).a 40 (τ16.1 46) l2).a 41 (τ16.1 46) x16).s 46 ((τ16.1 46) + 1)) Q))))) : W_readFile_2 l1 l2 τ Q := sorry
def w_hadGone (l1 : Int) (τ : TT) (Q : Int → TT → Prop) : Prop := Hid (TC yX11_hadGone cX11_hadGone 3 (some .boolean) 0 (rZ Q) (fun o => [(2, o), (0, l1)]) τ)
def W_hadGone_2 (l1 l2 : Int) (τ : TT) (Q : Int → TT → Prop) : Prop := Hid (TJ cX11_hadGone 3 (some .boolean) 0 (rZ Q) 2 (fun o => [(2, o), (0, l1), (0, l2)]) (fun o => []) τ)
set_option maxHeartbeats 2000000 in
theorem s_hadGone {l1 : Int} {τ : TT} {Q : Int → TT → Prop} (hB : W_hadGone_2 l1 0 τ Q) : w_hadGone l1 τ Q := sorry
set_option maxHeartbeats 2000000 in
theorem s_hadGone_2 {l1 l2 : Int} {τ : TT} {Q : Int → TT → Prop} (hB : ∀ (r4 : -2147483648 ≤ τ.1 47 ∧ τ.1 47 < 2147483648), (-2147483648 ≤ l2 ∧ l2 < 2147483648) ∧ (∀ (c7 : (τ.1 47) ≤ l2), Q 0 τ) ∧ (∀ (c7 : l2 < (τ.1 47)), (0 ≤ l2 ∧ l2 < 8200) ∧ ∀ (r15 : -2147483648 ≤ τ.2 43 l2 ∧ τ.2 43 l2 < 2147483648), (-2147483648 ≤ l1 ∧ l1 < 2147483648) ∧ (∀ (c17 : ¬ (τ.2 43 l2) = l1), W_hadGone_2 l1 ((l2 + 1)) τ Q) ∧ (∀ (c17 : (τ.2 43 l2) = l1), ∀ (r25 : 0 ≤ τ.2 44 l2 ∧ τ.2 44 l2 < 2), (∀ (c26 : (τ.2 44 l2) = 0), W_hadGone_2 l1 ((l2 + 1)) τ Q) ∧ (∀ (c26 : ¬ (τ.2 44 l2) = 0), Q 1 τ)))) : W_hadGone_2 l1 l2 τ Q := sorry
def w_isAtHome (l1 : Int) (τ : TT) (Q : Int → TT → Prop) : Prop := Hid (TC yX11_isAtHome cX11_isAtHome 5 (some .boolean) 1 (rZ Q) (fun o => [(2, o), (0, l1)]) τ)
def W_isAtHome_2 (l1 l2 : Int) (τ : TT) (Q : Int → TT → Prop) : Prop := Hid (TJ cX11_isAtHome 5 (some .boolean) 1 (rZ Q) 2 (fun o => [(2, o), (0, l1), (0, l2), vN, vN]) (fun o => []) τ)
def W_isAtHome_33 (l1 l2 l3 l4 : Int) (τ : TT) (Q : Int → TT → Prop) : Prop := Hid (TJ cX11_isAtHome 5 (some .boolean) 1 (rZ Q) 33 (fun o => [(2, o), (0, l1), (0, l2), (0, l3), (0, l4)]) (fun o => []) τ)
set_option maxHeartbeats 2000000 in
theorem s_isAtHome {l1 : Int} {τ : TT} {Q : Int → TT → Prop} (hB : W_isAtHome_2 l1 0 τ Q) : w_isAtHome l1 τ Q := sorry
set_option maxHeartbeats 2000000 in
theorem s_isAtHome_2 {l1 l2 : Int} {τ : TT} {Q : Int → TT → Prop} (hB : ∀ (r4 : -2147483648 ≤ τ.1 46 ∧ τ.1 46 < 2147483648), (-2147483648 ≤ l2 ∧ l2 < 2147483648) ∧ (∀ (c7 : (τ.1 46) ≤ l2), Q 0 τ) ∧ (∀ (c7 : l2 < (τ.1 46)), (0 ≤ l2 ∧ l2 < 8200) ∧ ∀ (r15 : -2147483648 ≤ τ.2 41 l2 ∧ τ.2 41 l2 < 2147483648), (-2147483648 ≤ l1 ∧ l1 < 2147483648) ∧ (∀ (c17 : (τ.2 41 l2) = l1), ∀ (r28 : -2147483648 ≤ τ.2 39 l2 ∧ τ.2 39 l2 < 2147483648), W_isAtHome_33 l1 l2 ((τ.2 39 l2)) 0 τ Q) ∧ (∀ (c17 : ¬ (τ.2 41 l2) = l1), W_isAtHome_2 l1 ((l2 + 1)) τ Q))) : W_isAtHome_2 l1 l2 τ Q := sorry
set_option maxHeartbeats 2000000 in
theorem s_isAtHome_33 {l1 l2 l3 l4 : Int} {τ : TT} {Q : Int → TT → Prop} (hB : ∀ (r36 : -2147483648 ≤ τ.1 47 ∧ τ.1 47 < 2147483648), (-2147483648 ≤ l4 ∧ l4 < 2147483648) ∧ (∀ (c39 : (τ.1 47) ≤ l4), W_isAtHome_2 l1 ((l2 + 1)) τ Q) ∧ (∀ (c39 : l4 < (τ.1 47)), (0 ≤ l4 ∧ l4 < 8200) ∧ ∀ (r48 : -2147483648 ≤ τ.2 43 l4 ∧ τ.2 43 l4 < 2147483648), (-2147483648 ≤ l1 ∧ l1 < 2147483648) ∧ (∀ (c50 : ¬ (τ.2 43 l4) = l1), W_isAtHome_33 l1 l2 l3 ((l4 + 1)) τ Q) ∧ (∀ (c50 : (τ.2 43 l4) = l1), (0 ≤ l3 ∧ l3 < 40) ∧ ∀ (r66 : -2147483648 ≤ τ.2 19 l3 ∧ τ.2 19 l3 < 2147483648), ∀ (r79 : -2147483648 ≤ τ.2 42 l4 ∧ τ.2 42 l4 < 2147483648), ∀ (r91 : -2147483648 ≤ τ.2 42 l4 ∧ τ.2 42 l4 < 2147483648), (0 ≤ (τ.2 42 l4) ∧ (τ.2 42 l4) < 40) ∧ ∀ (r92 : -2147483648 ≤ τ.2 20 (τ.2 42 l4) ∧ τ.2 20 (τ.2 42 l4) < 2147483648), w_compare 17 (40 * l3) (τ.2 19 l3) 18 (40 * (τ.2 42 l4)) (τ.2 20 (τ.2 42 l4)) τ (fun x93 τ93 => ∀ (r93 : -2147483648 ≤ x93 ∧ x93 < 2147483648), (∀ (c96 : ¬ x93 = 0), W_isAtHome_33 l1 l2 l3 ((l4 + 1)) τ93 Q) ∧ (∀ (c96 : x93 = 0), Q 1 τ93))))) : W_isAtHome_33 l1 l2 l3 l4 τ Q := sorry
def w_shift (l1 l2 : Int) (τ : TT) (Q : TT → Prop) : Prop := Hid (TC yX11_shift cX11_shift 3 none 0 (rU Q) (fun o => [(2, o), (0, l1), (0, l2)]) τ)
set_option maxHeartbeats 2000000 in
theorem s_shift {l1 l2 : Int} {τ : TT} {Q : TT → Prop} (hB : (0 ≤ l2 ∧ l2 < 6000) ∧ ∀ (r10 : -2147483648 ≤ τ.2 47 l2 ∧ τ.2 47 l2 < 2147483648), (0 ≤ l1 ∧ l1 < 6000) ∧ ∀ (r22 : -2147483648 ≤ τ.2 48 l2 ∧ τ.2 48 l2 < 2147483648), ∀ (r34 : 0 ≤ τ.2 51 l2 ∧ τ.2 51 l2 < 2), Q (((τ.a 47 l1 (τ.2 47 l2)).a 48 l1 (τ.2 48 l2)).a 51 l1 (τ.2 51 l2))) : w_shift l1 l2 τ Q := sorry
def w_takeDocument (l1 : Int) (τ : TT) (Q : TT → Prop) : Prop := Hid (TC yX11_takeDocument cX11_takeDocument 4 none 1 (rU Q) (fun o => [(2, o), (0, l1)]) τ)
def W_takeDocument_7 (l1 l2 : Int) (τ : TT) (Q : TT → Prop) : Prop := Hid (TJ cX11_takeDocument 4 none 1 (rU Q) 7 (fun o => [(2, o), (0, l1), (0, l2), vN]) (fun o => []) τ)
def W_takeDocument_75 (l3 : Int) (τ : TT) (Q : TT → Prop) : Prop := Hid (TJ cX11_takeDocument 4 none 1 (rU Q) 75 (fun o => [(2, o), vN, vN, (0, l3)]) (fun o => []) τ)
set_option maxHeartbeats 2000000 in
theorem s_takeDocument {l1 : Int} {τ : TT} {Q : TT → Prop} (hB : ∀ (r1 : -2147483648 ≤ τ.1 59 ∧ τ.1 59 < 2147483648), W_takeDocument_7 l1 (((τ.1 59) - 1)) τ Q) : w_takeDocument l1 τ Q := sorry
set_option maxHeartbeats 2000000 in
theorem s_takeDocument_7 {l1 l2 : Int} {τ : TT} {Q : TT → Prop} (hB : (0 ≤ l2 ∧ l2 < 6000) ∧ ∀ (r12 : -2147483648 ≤ τ.2 47 l2 ∧ τ.2 47 l2 < 2147483648), (-2147483648 ≤ l1 ∧ l1 < 2147483648) ∧ (∀ (c14 : ¬ (τ.2 47 l2) = l1), W_takeDocument_7 l1 ((l2 + (-1))) τ Q) ∧ (∀ (c14 : (τ.2 47 l2) = l1), ∀ (r22 : 0 ≤ τ.2 51 l2 ∧ τ.2 51 l2 < 2), (∀ (c23 : (τ.2 51 l2) = 0), ∀ (r34 : -2147483648 ≤ τ.1 59 ∧ τ.1 59 < 2147483648), ∀ (r38 : -2147483648 ≤ τ.1 60 ∧ τ.1 60 < 2147483648), (-2147483648 ≤ l2 ∧ l2 < 2147483648) ∧ (-2147483648 ≤ ((τ.1 59) - (τ.1 60)) ∧ ((τ.1 59) - (τ.1 60)) < 2147483648) ∧ (∀ (c42 : ((τ.1 59) - (τ.1 60)) ≤ l2), (-2147483648 ≤ ((τ.1 59) - 1) ∧ ((τ.1 59) - 1) < 2147483648) ∧ (-2147483648 ≤ ((τ.1 60) - 1) ∧ ((τ.1 60) - 1) < 2147483648) ∧ W_takeDocument_75 l2 ((τ.s 59 ((τ.1 59) - 1)).s 60 ((τ.1 60) - 1)) Q) ∧ (∀ (c42 : l2 < ((τ.1 59) - (τ.1 60))), Q (τ.a 51 l2 1))) ∧ (∀ (c23 : ¬ (τ.2 51 l2) = 0), W_takeDocument_7 l1 ((l2 + (-1))) τ Q))) : W_takeDocument_7 l1 l2 τ Q := sorry
set_option maxHeartbeats 2000000 in
theorem s_takeDocument_75 {l3 : Int} {τ : TT} {Q : TT → Prop} (hB : ∀ (r77 : -2147483648 ≤ τ.1 59 ∧ τ.1 59 < 2147483648), (-2147483648 ≤ l3 ∧ l3 < 2147483648) ∧ (∀ (c80 : (τ.1 59) ≤ l3), Q τ) ∧ (∀ (c80 : l3 < (τ.1 59)), w_shift l3 (l3 + 1) τ (fun τ88 => W_takeDocument_75 ((l3 + 1)) τ88 Q))) : W_takeDocument_75 l3 τ Q := sorry
/-! 95.g01.lean.txt -/

set_option maxRecDepth 100000
theorem lf_X11_1719_25 : FLk RX11 1719 25 182 .int false := sorry
theorem lf_X11_882_25 : FLk RX11 882 25 181 .int false := sorry
theorem lf_X11_448_25 : FLk RX11 448 25 180 (.array .byte) true := sorry
theorem lf_X11_451_25 : FLk RX11 451 25 183 (.array .int) true := sorry
theorem lf_X11_454_25 : FLk RX11 454 25 184 (.array .int) true := sorry
theorem lf_X11_481_25 : FLk RX11 481 25 198 (.array .int) true := sorry
theorem lf_X11_1782_25 : FLk RX11 1782 25 197 .int false := sorry
theorem lf_X11_484_25 : FLk RX11 484 25 199 (.array .int) true := sorry
theorem lf_X11_487_25 : FLk RX11 487 25 200 (.array .int) true := sorry
theorem lm_X11_1716 : SLk RX11 1716 yX11_pSmall cX11_pSmall 1 (some .int) 1 := sorry
theorem lm_X11_1722 : SLk RX11 1722 yX11_pIsName cX11_pIsName 1 (some .boolean) 1 := sorry
theorem lf_X11_457_25 : FLk RX11 457 25 187 (.array .int) true := sorry
theorem lf_X11_460_25 : FLk RX11 460 25 188 (.array .int) true := sorry
theorem lm_X11_1725 : VLk RX11 1725 25 yX11_pColon cX11_pColon 3 (some .int) 1 := sorry
theorem lf_X11_463_25 : FLk RX11 463 25 189 (.array .int) true := sorry
theorem lf_X11_466_25 : FLk RX11 466 25 190 (.array .int) true := sorry
theorem lm_X11_1728 : SLk RX11 1728 yX11_pIsBlank cX11_pIsBlank 1 (some .boolean) 1 := sorry
theorem lf_X11_978_25 : FLk RX11 978 25 212 .int false := sorry
theorem lf_X11_926_25 : FLk RX11 926 25 205 .int false := sorry
theorem lm_X11_1731 : SLk RX11 1731 yX11_pIsWord cX11_pIsWord 6 (some .boolean) 5 := sorry
theorem lf_X11_496_25 : FLk RX11 496 25 204 (.array .byte) true := sorry
theorem lf_X11_1735_25 : FLk RX11 1735 25 207 .int false := sorry
theorem lf_X11_1738_25 : FLk RX11 1738 25 208 .int false := sorry
theorem lf_X11_1741_25 : FLk RX11 1741 25 206 .int false := sorry
theorem lm_X11_1744 : VLk RX11 1744 25 yX11_pOver cX11_pOver 4 (some .int) 2 := sorry
theorem lm_X11_1747 : VLk RX11 1747 25 yX11_pTrim cX11_pTrim 3 none 2 := sorry
theorem lf_X11_499_25 : FLk RX11 499 25 209 (.array .int) true := sorry
theorem lf_X11_502_25 : FLk RX11 502 25 210 (.array .int) true := sorry
theorem lf_X11_505_25 : FLk RX11 505 25 211 (.array .byte) true := sorry
theorem lm_X11_1750 : VLk RX11 1750 25 yX11_pNothing cX11_pNothing 1 none 0 := sorry
theorem lm_X11_929 : VLk RX11 929 25 yX11_pFind cX11_pFind 7 (some .boolean) 3 := sorry
theorem lm_X11_1753 : VLk RX11 1753 25 yX11_pItemize cX11_pItemize 3 none 0 := sorry
theorem lm_X11_1756 : VLk RX11 1756 25 yX11_pKeep cX11_pKeep 5 none 3 := sorry
theorem lf_X11_397_25 : FLk RX11 397 25 163 (.array .int) true := sorry
theorem lm_X11_997 : VLk RX11 997 25 yX11_pFirstItem cX11_pFirstItem 3 none 2 := sorry
theorem lm_X11_1763 : VLk RX11 1763 25 yX11_pIsType cX11_pIsType 3 (some .boolean) 0 := sorry
theorem lf_X11_469_25 : FLk RX11 469 25 191 (.array .int) true := sorry
theorem lf_X11_475_25 : FLk RX11 475 25 193 (.array .int) true := sorry
theorem lf_X11_427_25 : FLk RX11 427 25 173 (.array .int) true := sorry
theorem lm_X11_1000 : VLk RX11 1000 25 yX11_pIsGot cX11_pIsGot 2 (some .boolean) 1 := sorry
theorem lf_X11_415_25 : FLk RX11 415 25 169 (.array .int) true := sorry
theorem lf_X11_433_25 : FLk RX11 433 25 175 (.array .int) true := sorry
theorem lm_X11_1766 : VLk RX11 1766 25 yX11_pSet cX11_pSet 3 none 1 := sorry
theorem lm_X11_1760 : VLk RX11 1760 25 yX11_pUnquote cX11_pUnquote 3 none 0 := sorry
theorem lm_X11_1028 : VLk RX11 1028 25 yX11_pType cX11_pType 3 none 1 := sorry
theorem lf_X11_424_25 : FLk RX11 424 25 172 (.array .int) true := sorry
theorem lm_X11_1785 : VLk RX11 1785 25 yX11_pBegins cX11_pBegins 2 (some .boolean) 1 := sorry
theorem lf_X11_406_25 : FLk RX11 406 25 166 (.array .int) true := sorry
theorem lm_X11_987 : VLk RX11 987 25 yX11_pParameterOf cX11_pParameterOf 5 (some .boolean) 2 := sorry
theorem lf_X11_1770_25 : FLk RX11 1770 25 214 .int false := sorry
theorem lf_X11_508_25 : FLk RX11 508 25 213 (.array .byte) true := sorry
theorem lf_X11_490_25 : FLk RX11 490 25 202 (.array .int) true := sorry
theorem lf_X11_1773_25 : FLk RX11 1773 25 201 .int false := sorry
theorem lf_X11_493_25 : FLk RX11 493 25 203 (.array .int) true := sorry
theorem lm_X11_1776 : VLk RX11 1776 25 yX11_pMarked cX11_pMarked 4 (some .int) 1 := sorry
theorem lm_X11_1779 : VLk RX11 1779 25 yX11_pAdd cX11_pAdd 3 none 2 := sorry
theorem lf_X11_400_25 : FLk RX11 400 25 164 (.array .int) true := sorry
theorem lf_X11_439_25 : FLk RX11 439 25 177 (.array .int) true := sorry
theorem lf_X11_442_25 : FLk RX11 442 25 178 (.array .int) true := sorry
theorem lf_X11_445_25 : FLk RX11 445 25 179 (.array .int) true := sorry
theorem lm_X11_1788 : VLk RX11 1788 25 yX11_pFindHead cX11_pFindHead 6 none 1 := sorry
theorem lf_X11_472_25 : FLk RX11 472 25 192 (.array .int) true := sorry
theorem lm_X11_1791 : VLk RX11 1791 25 yX11_pIsMulti cX11_pIsMulti 3 (some .boolean) 1 := sorry
theorem lm_X11_1800 : VLk RX11 1800 25 yX11_pIsEnclosed cX11_pIsEnclosed 2 (some .boolean) 1 := sorry
theorem lm_X11_1797 : VLk RX11 1797 25 yX11_pPush cX11_pPush 4 none 3 := sorry
theorem lm_X11_1794 : VLk RX11 1794 25 yX11_pFindParts cX11_pFindParts 6 none 1 := sorry
theorem lf_X11_910_25 : FLk RX11 910 25 185 .int false := sorry
theorem lf_X11_1803_25 : FLk RX11 1803 25 186 .int false := sorry
theorem lm_X11_1806 : VLk RX11 1806 25 yX11_pLook cX11_pLook 3 none 1 := sorry
theorem lf_X11_403_25 : FLk RX11 403 25 165 (.array .int) true := sorry
theorem lf_X11_436_25 : FLk RX11 436 25 176 (.array .int) true := sorry
theorem lf_X11_478_25 : FLk RX11 478 25 194 (.array .long) true := sorry
theorem lf_X11_1809_25 : FLk RX11 1809 25 196 .long false := sorry
def w_pSplit (τ : TT) (Q : TT → Prop) : Prop := Hid (TC yX11_pSplit cX11_pSplit 3 none 0 (rU Q) (fun o => [(2, o)]) τ)
def W_pSplit_7 (l1 : Int) (τ : TT) (Q : TT → Prop) : Prop := Hid (TJ cX11_pSplit 3 none 0 (rU Q) 7 (fun o => [(2, o), (0, l1), vN]) (fun o => []) τ)
def W_pSplit_17 (l1 l2 : Int) (τ : TT) (Q : TT → Prop) : Prop := Hid (TJ cX11_pSplit 3 none 0 (rU Q) 17 (fun o => [(2, o), (0, l1), (0, l2)]) (fun o => []) τ)
def W_pSplit_42 (l1 l2 : Int) (τ : TT) (Q : TT → Prop) : Prop := Hid (TJ cX11_pSplit 3 none 0 (rU Q) 42 (fun o => [(2, o), (0, l1), (0, l2)]) (fun o => []) τ)
def W_pSplit_92 (l2 s0 : Int) (τ : TT) (Q : TT → Prop) : Prop := Hid (TJ cX11_pSplit 3 none 0 (rU Q) 92 (fun o => [(2, o), vN, (0, l2)]) (fun o => [(0, s0), (2, o + 123)]) τ)
def W_pSplit_93 (l2 s0 s1 : Int) (τ : TT) (Q : TT → Prop) : Prop := Hid (TJ cX11_pSplit 3 none 0 (rU Q) 93 (fun o => [(2, o), vN, (0, l2)]) (fun o => [(0, s0), (0, s1), (2, o + 123)]) τ)
set_option maxHeartbeats 2000000 in
theorem s_pSplit {τ : TT} {Q : TT → Prop} (hB : W_pSplit_7 0 (τ.s 182 0) Q) : w_pSplit  τ Q := sorry
set_option maxHeartbeats 2000000 in
theorem s_pSplit_7 {l1 : Int} {τ : TT} {Q : TT → Prop} (hB : ∀ (r9 : -2147483648 ≤ τ.1 181 ∧ τ.1 181 < 2147483648), (-2147483648 ≤ l1 ∧ l1 < 2147483648) ∧ (∀ (c12 : (τ.1 181) ≤ l1), Q τ) ∧ (∀ (c12 : l1 < (τ.1 181)), W_pSplit_17 l1 l1 τ Q)) : W_pSplit_7 l1 τ Q := sorry
set_option maxHeartbeats 2000000 in
theorem s_pSplit_17 {l1 l2 : Int} {τ : TT} {Q : TT → Prop} (hB : ∀ (r19 : -2147483648 ≤ τ.1 181 ∧ τ.1 181 < 2147483648), (-2147483648 ≤ l2 ∧ l2 < 2147483648) ∧ (∀ (c22 : (τ.1 181) ≤ l2), W_pSplit_42 l1 l2 τ Q) ∧ (∀ (c22 : l2 < (τ.1 181)), (0 ≤ l2 ∧ l2 < 2000) ∧ ∀ (r30 : -128 ≤ τ.2 121 l2 ∧ τ.2 121 l2 < 128), (∀ (c33 : (τ.2 121 l2) = 10), W_pSplit_42 l1 l2 τ Q) ∧ (∀ (c33 : ¬ (τ.2 121 l2) = 10), W_pSplit_17 l1 ((l2 + 1)) τ Q))) : W_pSplit_17 l1 l2 τ Q := sorry
set_option maxHeartbeats 2000000 in
theorem s_pSplit_42 {l1 l2 : Int} {τ : TT} {Q : TT → Prop} (hB : ∀ (r47 : -2147483648 ≤ τ.1 182 ∧ τ.1 182 < 2147483648), (0 ≤ (τ.1 182) ∧ (τ.1 182) < 2001) ∧ (-2147483648 ≤ l1 ∧ l1 < 2147483648) ∧ ∀ (r62 : -2147483648 ≤ τ.1 181 ∧ τ.1 181 < 2147483648), (-2147483648 ≤ l2 ∧ l2 < 2147483648) ∧ (∀ (c65 : (τ.1 181) ≤ l2), W_pSplit_92 l2 ((τ.1 182)) (τ.a 122 (τ.1 182) l1) Q) ∧ (∀ (c65 : l2 < (τ.1 181)), (∀ (c70 : l2 ≤ l1), W_pSplit_92 l2 ((τ.1 182)) (τ.a 122 (τ.1 182) l1) Q) ∧ (∀ (c70 : l1 < l2), (0 ≤ (l2 - 1) ∧ (l2 - 1) < 2000) ∧ ∀ (r80 : -128 ≤ τ.2 121 (l2 - 1) ∧ τ.2 121 (l2 - 1) < 128), (∀ (c83 : ¬ (τ.2 121 (l2 - 1)) = 13), W_pSplit_92 l2 ((τ.1 182)) (τ.a 122 (τ.1 182) l1) Q) ∧ (∀ (c83 : (τ.2 121 (l2 - 1)) = 13), W_pSplit_93 l2 ((l2 - 1)) ((τ.1 182)) (τ.a 122 (τ.1 182) l1) Q)))) : W_pSplit_42 l1 l2 τ Q := sorry
set_option maxHeartbeats 2000000 in
theorem s_pSplit_92 {l2 s0 : Int} {τ : TT} {Q : TT → Prop} (hB : W_pSplit_93 l2 l2 s0 τ Q) : W_pSplit_92 l2 s0 τ Q := sorry
set_option maxHeartbeats 2000000 in
theorem s_pSplit_93 {l2 s0 s1 : Int} {τ : TT} {Q : TT → Prop} (hB : (0 ≤ s1 ∧ s1 < 2001) ∧ (-2147483648 ≤ s0 ∧ s0 < 2147483648) ∧ ∀ (r96 : -2147483648 ≤ τ.1 182 ∧ τ.1 182 < 2147483648), (-2147483648 ≤ ((τ.1 182) + 1) ∧ ((τ.1 182) + 1) < 2147483648) ∧ W_pSplit_7 ((l2 + 1)) ((τ.a 123 s1 s0).s 182 ((τ.1 182) + 1)) Q) : W_pSplit_93 l2 s0 s1 τ Q := sorry
def w_pPush (l1 l2 l3 : Int) (τ : TT) (Q : TT → Prop) : Prop := Hid (TC yX11_pPush cX11_pPush 4 none 0 (rU Q) (fun o => [(2, o), (0, l1), (0, l2), (0, l3)]) τ)
set_option maxHeartbeats 2000000 in
theorem s_pPush {l1 l2 l3 : Int} {τ : TT} {Q : TT → Prop} (hB : ∀ (r5 : -2147483648 ≤ τ.1 197 ∧ τ.1 197 < 2147483648), (0 ≤ (τ.1 197) ∧ (τ.1 197) < 520) ∧ (-2147483648 ≤ l1 ∧ l1 < 2147483648) ∧ (-2147483648 ≤ l2 ∧ l2 < 2147483648) ∧ (-2147483648 ≤ l3 ∧ l3 < 2147483648) ∧ (-2147483648 ≤ ((τ.1 197) + 1) ∧ ((τ.1 197) + 1) < 2147483648) ∧ Q ((((τ.a 132 (τ.1 197) l1).a 133 (τ.1 197) l2).a 134 (τ.1 197) l3).s 197 ((τ.1 197) + 1))) : w_pPush l1 l2 l3 τ Q := sorry
def w_pSmall (l0 : Int) (τ : TT) (Q : Int → TT → Prop) : Prop := Hid (TC yX11_pSmall cX11_pSmall 1 (some .int) 0 (rI Q) (fun o => [(0, l0)]) τ)
set_option maxHeartbeats 2000000 in
theorem s_pSmall {l0 : Int} {τ : TT} {Q : Int → TT → Prop} (hB : (-2147483648 ≤ l0 ∧ l0 < 2147483648) ∧ (∀ (c3 : l0 < 65), Q l0 τ) ∧ (∀ (c3 : 65 ≤ l0), (∀ (c9 : 90 < l0), Q l0 τ) ∧ (∀ (c9 : l0 ≤ 90), (-2147483648 ≤ (l0 + 32) ∧ (l0 + 32) < 2147483648) ∧ Q (l0 + 32) τ))) : w_pSmall l0 τ Q := sorry
def w_pIsName (l0 : Int) (τ : TT) (Q : Int → TT → Prop) : Prop := Hid (TC yX11_pIsName cX11_pIsName 1 (some .boolean) 1 (rZ Q) (fun o => [(0, l0)]) τ)
def W_pIsName_18 (l0 : Int) (τ : TT) (Q : Int → TT → Prop) : Prop := Hid (TJ cX11_pIsName 1 (some .boolean) 1 (rZ Q) 18 (fun o => [(0, l0)]) (fun o => []) τ)
def W_pIsName_30 (l0 : Int) (τ : TT) (Q : Int → TT → Prop) : Prop := Hid (TJ cX11_pIsName 1 (some .boolean) 1 (rZ Q) 30 (fun o => [(0, l0)]) (fun o => []) τ)
set_option maxHeartbeats 2000000 in
theorem s_pIsName {l0 : Int} {τ : TT} {Q : Int → TT → Prop} (hB : w_pSmall l0 τ (fun x1 τ1 => ∀ (r1 : -2147483648 ≤ x1 ∧ x1 < 2147483648), (∀ (c6 : x1 < 97), W_pIsName_18 l0 τ1 Q) ∧ (∀ (c6 : 97 ≤ x1), w_pSmall l0 τ1 (fun x10 τ10 => ∀ (r10 : -2147483648 ≤ x10 ∧ x10 < 2147483648), (∀ (c15 : x10 ≤ 122), Q 1 τ10) ∧ (∀ (c15 : 122 < x10), W_pIsName_18 l0 τ10 Q))))) : w_pIsName l0 τ Q := sorry
set_option maxHeartbeats 2000000 in
theorem s_pIsName_18 {l0 : Int} {τ : TT} {Q : Int → TT → Prop} (hB : (-2147483648 ≤ l0 ∧ l0 < 2147483648) ∧ (∀ (c21 : l0 < 48), W_pIsName_30 l0 τ Q) ∧ (∀ (c21 : 48 ≤ l0), (∀ (c27 : l0 ≤ 57), Q 1 τ) ∧ (∀ (c27 : 57 < l0), W_pIsName_30 l0 τ Q))) : W_pIsName_18 l0 τ Q := sorry
set_option maxHeartbeats 2000000 in
theorem s_pIsName_30 {l0 : Int} {τ : TT} {Q : Int → TT → Prop} (hB : (-2147483648 ≤ l0 ∧ l0 < 2147483648) ∧ (∀ (c33 : ¬ l0 = 45), Q 0 τ) ∧ (∀ (c33 : l0 = 45), Q 1 τ)) : W_pIsName_30 l0 τ Q := sorry
def w_pColon (l1 : Int) (τ : TT) (Q : Int → TT → Prop) : Prop := Hid (TC yX11_pColon cX11_pColon 3 (some .int) 2 (rI Q) (fun o => [(2, o), (0, l1)]) τ)
def W_pColon_7 (l1 l2 : Int) (τ : TT) (Q : Int → TT → Prop) : Prop := Hid (TJ cX11_pColon 3 (some .int) 2 (rI Q) 7 (fun o => [(2, o), (0, l1), (0, l2)]) (fun o => []) τ)
def W_pColon_35 (l1 l2 : Int) (τ : TT) (Q : Int → TT → Prop) : Prop := Hid (TJ cX11_pColon 3 (some .int) 2 (rI Q) 35 (fun o => [(2, o), (0, l1), (0, l2)]) (fun o => []) τ)
set_option maxHeartbeats 2000000 in
theorem s_pColon {l1 : Int} {τ : TT} {Q : Int → TT → Prop} (hB : (0 ≤ l1 ∧ l1 < 2001) ∧ ∀ (r5 : -2147483648 ≤ τ.2 122 l1 ∧ τ.2 122 l1 < 2147483648), W_pColon_7 l1 ((τ.2 122 l1)) τ Q) : w_pColon l1 τ Q := sorry
set_option maxHeartbeats 2000000 in
theorem s_pColon_7 {l1 l2 : Int} {τ : TT} {Q : Int → TT → Prop} (hB : (0 ≤ l1 ∧ l1 < 2001) ∧ ∀ (r13 : -2147483648 ≤ τ.2 123 l1 ∧ τ.2 123 l1 < 2147483648), (-2147483648 ≤ l2 ∧ l2 < 2147483648) ∧ (∀ (c14 : (τ.2 123 l1) ≤ l2), W_pColon_35 l1 l2 τ Q) ∧ (∀ (c14 : l2 < (τ.2 123 l1)), (0 ≤ l2 ∧ l2 < 2000) ∧ ∀ (r22 : -128 ≤ τ.2 121 l2 ∧ τ.2 121 l2 < 128), w_pIsName (τ.2 121 l2) τ (fun x23 τ23 => ∀ (r23 : x23 = 0 ∨ x23 = 1), (∀ (c26 : x23 = 0), W_pColon_35 l1 l2 τ23 Q) ∧ (∀ (c26 : ¬ x23 = 0), W_pColon_7 l1 ((l2 + 1)) τ23 Q)))) : W_pColon_7 l1 l2 τ Q := sorry
set_option maxHeartbeats 2000000 in
theorem s_pColon_35 {l1 l2 : Int} {τ : TT} {Q : Int → TT → Prop} (hB : (0 ≤ l1 ∧ l1 < 2001) ∧ ∀ (r41 : -2147483648 ≤ τ.2 122 l1 ∧ τ.2 122 l1 < 2147483648), (-2147483648 ≤ l2 ∧ l2 < 2147483648) ∧ (∀ (c42 : l2 ≤ (τ.2 122 l1)), Q (-1) τ) ∧ (∀ (c42 : (τ.2 122 l1) < l2), ∀ (r51 : -2147483648 ≤ τ.2 123 l1 ∧ τ.2 123 l1 < 2147483648), (∀ (c52 : (τ.2 123 l1) ≤ l2), Q (-1) τ) ∧ (∀ (c52 : l2 < (τ.2 123 l1)), (0 ≤ l2 ∧ l2 < 2000) ∧ ∀ (r60 : -128 ≤ τ.2 121 l2 ∧ τ.2 121 l2 < 128), (∀ (c63 : ¬ (τ.2 121 l2) = 58), Q (-1) τ) ∧ (∀ (c63 : (τ.2 121 l2) = 58), Q l2 τ)))) : W_pColon_35 l1 l2 τ Q := sorry
def w_pIsBlank (l0 : Int) (τ : TT) (Q : Int → TT → Prop) : Prop := Hid (TC yX11_pIsBlank cX11_pIsBlank 1 (some .boolean) 0 (rZ Q) (fun o => [(0, l0)]) τ)
set_option maxHeartbeats 2000000 in
theorem s_pIsBlank {l0 : Int} {τ : TT} {Q : Int → TT → Prop} (hB : (-2147483648 ≤ l0 ∧ l0 < 2147483648) ∧ (∀ (c3 : l0 = 32), Q 1 τ) ∧ (∀ (c3 : ¬ l0 = 32), (∀ (c9 : ¬ l0 = 9), Q 0 τ) ∧ (∀ (c9 : l0 = 9), Q 1 τ))) : w_pIsBlank l0 τ Q := sorry
def w_pFindHead (l1 : Int) (τ : TT) (Q : TT → Prop) : Prop := Hid (TC yX11_pFindHead cX11_pFindHead 6 none 3 (rU Q) (fun o => [(2, o), (0, l1)]) τ)
def W_pFindHead_12 (l1 l2 l3 l4 : Int) (τ : TT) (Q : TT → Prop) : Prop := Hid (TJ cX11_pFindHead 6 none 3 (rU Q) 12 (fun o => [(2, o), (0, l1), (0, l2), (0, l3), (0, l4), vN]) (fun o => []) τ)
def W_pFindHead_122 (l1 l2 : Int) (τ : TT) (Q : TT → Prop) : Prop := Hid (TJ cX11_pFindHead 6 none 3 (rU Q) 122 (fun o => [(2, o), (0, l1), (0, l2), vN, vN, vN]) (fun o => []) τ)
def W_pFindHead_41 (l1 l2 l3 s0 : Int) (τ : TT) (Q : TT → Prop) : Prop := Hid (TJ cX11_pFindHead 6 none 3 (rU Q) 41 (fun o => [(2, o), (0, l1), (0, l2), (0, l3), vN, vN]) (fun o => [(0, s0)]) τ)
def W_pFindHead_84 (l1 l2 l3 l5 : Int) (τ : TT) (Q : TT → Prop) : Prop := Hid (TJ cX11_pFindHead 6 none 3 (rU Q) 84 (fun o => [(2, o), (0, l1), (0, l2), (0, l3), vN, (0, l5)]) (fun o => []) τ)
def W_pFindHead_88 (l1 l2 l3 l5 : Int) (τ : TT) (Q : TT → Prop) : Prop := Hid (TJ cX11_pFindHead 6 none 3 (rU Q) 88 (fun o => [(2, o), (0, l1), (0, l2), (0, l3), vN, (0, l5)]) (fun o => []) τ)
def W_pFindHead_89 (l1 l2 l3 l5 s0 : Int) (τ : TT) (Q : TT → Prop) : Prop := Hid (TJ cX11_pFindHead 6 none 3 (rU Q) 89 (fun o => [(2, o), (0, l1), (0, l2), (0, l3), vN, (0, l5)]) (fun o => [(0, s0)]) τ)
def W_pFindHead_100 (l1 l2 l4 : Int) (τ : TT) (Q : TT → Prop) : Prop := Hid (TJ cX11_pFindHead 6 none 3 (rU Q) 100 (fun o => [(2, o), (0, l1), (0, l2), vN, (0, l4), vN]) (fun o => []) τ)
def W_pFindHead_105 (l1 l2 l4 s0 : Int) (τ : TT) (Q : TT → Prop) : Prop := Hid (TJ cX11_pFindHead 6 none 3 (rU Q) 105 (fun o => [(2, o), (0, l1), (0, l2), vN, (0, l4), vN]) (fun o => [(0, s0)]) τ)
set_option maxHeartbeats 2000000 in
theorem s_pFindHead {l1 : Int} {τ : TT} {Q : TT → Prop} (hB : (0 ≤ l1 ∧ l1 < 60) ∧ ∀ (r5 : -2147483648 ≤ τ.2 124 l1 ∧ τ.2 124 l1 < 2147483648), W_pFindHead_12 l1 ((τ.2 124 l1)) 0 1 τ Q) : w_pFindHead l1 τ Q := sorry
set_option maxHeartbeats 2000000 in
theorem s_pFindHead_12 {l1 l2 l3 l4 : Int} {τ : TT} {Q : TT → Prop} (hB : (0 ≤ l1 ∧ l1 < 60) ∧ ∀ (r18 : -2147483648 ≤ τ.2 125 l1 ∧ τ.2 125 l1 < 2147483648), (-2147483648 ≤ l2 ∧ l2 < 2147483648) ∧ (∀ (c19 : (τ.2 125 l1) ≤ l2), W_pFindHead_122 l1 l2 τ Q) ∧ (∀ (c19 : l2 < (τ.2 125 l1)), (-2147483648 ≤ l4 ∧ l4 < 2147483648) ∧ (∀ (c24 : l4 = 0), W_pFindHead_122 l1 l2 τ Q) ∧ (∀ (c24 : ¬ l4 = 0), w_pColon l2 τ (fun x29 τ29 => ∀ (r29 : -2147483648 ≤ x29 ∧ x29 < 2147483648), (∀ (c33 : x29 = (-1)), W_pFindHead_41 l1 l2 l3 0 τ29 Q) ∧ (∀ (c33 : ¬ x29 = (-1)), W_pFindHead_41 l1 l2 l3 1 τ29 Q))))) : W_pFindHead_12 l1 l2 l3 l4 τ Q := sorry
set_option maxHeartbeats 2000000 in
theorem s_pFindHead_122 {l1 l2 : Int} {τ : TT} {Q : TT → Prop} (hB : (0 ≤ l1 ∧ l1 < 60) ∧ (-2147483648 ≤ l2 ∧ l2 < 2147483648) ∧ ∀ (r140 : -2147483648 ≤ τ.2 125 l1 ∧ τ.2 125 l1 < 2147483648), (∀ (c141 : (τ.2 125 l1) ≤ l2), Q ((τ.a 126 l1 l2).a 127 l1 l2)) ∧ (∀ (c141 : l2 < (τ.2 125 l1)), (0 ≤ l2 ∧ l2 < 2001) ∧ ∀ (r149 : -2147483648 ≤ τ.2 122 l2 ∧ τ.2 122 l2 < 2147483648), ∀ (r155 : -2147483648 ≤ τ.2 123 l2 ∧ τ.2 123 l2 < 2147483648), (∀ (c156 : ¬ (τ.2 122 l2) = (τ.2 123 l2)), Q ((τ.a 126 l1 l2).a 127 l1 l2)) ∧ (∀ (c156 : (τ.2 122 l2) = (τ.2 123 l2)), (-2147483648 ≤ (l2 + 1) ∧ (l2 + 1) < 2147483648) ∧ Q ((τ.a 126 l1 l2).a 127 l1 (l2 + 1))))) : W_pFindHead_122 l1 l2 τ Q := sorry
set_option maxHeartbeats 2000000 in
theorem s_pFindHead_41 {l1 l2 l3 s0 : Int} {τ : TT} {Q : TT → Prop} (hB : (-2147483648 ≤ s0 ∧ s0 < 2147483648) ∧ (∀ (c45 : ¬ s0 = 0), W_pFindHead_84 l1 l2 l3 s0 τ Q) ∧ (∀ (c45 : s0 = 0), (-2147483648 ≤ l3 ∧ l3 < 2147483648) ∧ (∀ (c49 : l3 = 0), W_pFindHead_88 l1 l2 l3 s0 τ Q) ∧ (∀ (c49 : ¬ l3 = 0), (0 ≤ l2 ∧ l2 < 2001) ∧ ∀ (r57 : -2147483648 ≤ τ.2 122 l2 ∧ τ.2 122 l2 < 2147483648), ∀ (r63 : -2147483648 ≤ τ.2 123 l2 ∧ τ.2 123 l2 < 2147483648), (∀ (c64 : (τ.2 123 l2) ≤ (τ.2 122 l2)), W_pFindHead_88 l1 l2 l3 s0 τ Q) ∧ (∀ (c64 : (τ.2 122 l2) < (τ.2 123 l2)), ∀ (r76 : -2147483648 ≤ τ.2 122 l2 ∧ τ.2 122 l2 < 2147483648), (0 ≤ (τ.2 122 l2) ∧ (τ.2 122 l2) < 2000) ∧ ∀ (r77 : -128 ≤ τ.2 121 (τ.2 122 l2) ∧ τ.2 121 (τ.2 122 l2) < 128), w_pIsBlank (τ.2 121 (τ.2 122 l2)) τ (fun x78 τ78 => ∀ (r78 : x78 = 0 ∨ x78 = 1), (∀ (c81 : x78 = 0), W_pFindHead_88 l1 l2 l3 s0 τ78 Q) ∧ (∀ (c81 : ¬ x78 = 0), W_pFindHead_84 l1 l2 l3 s0 τ78 Q)))))) : W_pFindHead_41 l1 l2 l3 s0 τ Q := sorry
set_option maxHeartbeats 2000000 in
theorem s_pFindHead_84 {l1 l2 l3 l5 : Int} {τ : TT} {Q : TT → Prop} (hB : W_pFindHead_89 l1 l2 l3 l5 1 τ Q) : W_pFindHead_84 l1 l2 l3 l5 τ Q := sorry
set_option maxHeartbeats 2000000 in
theorem s_pFindHead_88 {l1 l2 l3 l5 : Int} {τ : TT} {Q : TT → Prop} (hB : W_pFindHead_89 l1 l2 l3 l5 0 τ Q) : W_pFindHead_88 l1 l2 l3 l5 τ Q := sorry
set_option maxHeartbeats 2000000 in
theorem s_pFindHead_89 {l1 l2 l3 l5 s0 : Int} {τ : TT} {Q : TT → Prop} (hB : (-2147483648 ≤ l3 ∧ l3 < 2147483648) ∧ (∀ (c92 : ¬ l3 = 0), W_pFindHead_100 l1 l2 s0 τ Q) ∧ (∀ (c92 : l3 = 0), (-2147483648 ≤ l5 ∧ l5 < 2147483648) ∧ (∀ (c97 : l5 = 0), W_pFindHead_105 l1 l2 s0 0 τ Q) ∧ (∀ (c97 : ¬ l5 = 0), W_pFindHead_100 l1 l2 s0 τ Q))) : W_pFindHead_89 l1 l2 l3 l5 s0 τ Q := sorry
set_option maxHeartbeats 2000000 in
theorem s_pFindHead_100 {l1 l2 l4 : Int} {τ : TT} {Q : TT → Prop} (hB : W_pFindHead_105 l1 l2 l4 1 τ Q) : W_pFindHead_100 l1 l2 l4 τ Q := sorry
set_option maxHeartbeats 2000000 in
theorem s_pFindHead_105 {l1 l2 l4 s0 : Int} {τ : TT} {Q : TT → Prop} (hB : (-2147483648 ≤ l4 ∧ l4 < 2147483648) ∧ (∀ (c109 : l4 = 0), W_pFindHead_12 l1 ((l2 + 0)) s0 l4 τ Q) ∧ (∀ (c109 : ¬ l4 = 0), W_pFindHead_12 l1 ((l2 + 1)) s0 l4 τ Q)) : W_pFindHead_105 l1 l2 l4 s0 τ Q := sorry
def w_pNothing (τ : TT) (Q : TT → Prop) : Prop := Hid (TC yX11_pNothing cX11_pNothing 1 none 0 (rU Q) (fun o => [(2, o)]) τ)
set_option maxHeartbeats 2000000 in
theorem s_pNothing {τ : TT} {Q : TT → Prop} (hB : Q (τ.s 212 0)) : w_pNothing  τ Q := sorry
def w_pIsWord (l0 l1 l2 l3 l4 : Int) (τ : TT) (Q : Int → TT → Prop) : Prop := Hid (TC yX11_pIsWord cX11_pIsWord 6 (some .boolean) 1 (rZ Q) (fun o => [(2, o + l0), (0, l1), (0, l2), (2, o + l3), (0, l4)]) τ)
def W_pIsWord_13 (l0 l1 l3 l4 l5 : Int) (τ : TT) (Q : Int → TT → Prop) : Prop := Hid (TJ cX11_pIsWord 6 (some .boolean) 1 (rZ Q) 13 (fun o => [(2, o + l0), (0, l1), vN, (2, o + l3), (0, l4), (0, l5)]) (fun o => []) τ)
set_option maxHeartbeats 2000000 in
theorem s_pIsWord {l0 l1 l2 l3 l4 : Int} {τ : TT} {Q : Int → TT → Prop} (hB : (-2147483648 ≤ (l2 - l1) ∧ (l2 - l1) < 2147483648) ∧ (-2147483648 ≤ l4 ∧ l4 < 2147483648) ∧ (∀ (c5 : (l2 - l1) = l4), W_pIsWord_13 l0 l1 l3 l4 0 τ Q) ∧ (∀ (c5 : ¬ (l2 - l1) = l4), Q 0 τ)) : w_pIsWord l0 l1 l2 l3 l4 τ Q := sorry
set_option maxHeartbeats 2000000 in
theorem s_pIsWord_13 {l0 l1 l3 l4 l5 : Int} {τ : TT} {Q : Int → TT → Prop} (hB : (-2147483648 ≤ l5 ∧ l5 < 2147483648) ∧ (-2147483648 ≤ l4 ∧ l4 < 2147483648) ∧ (∀ (c17 : l4 ≤ l5), Q 1 τ) ∧ (∀ (c17 : l5 < l4), (ttg l0 = 101) ∧ (0 ≤ (l1 + l5) ∧ (l1 + l5) < tlen l0) ∧ ∀ (r25 : -128 ≤ τ.2 l0 (l1 + l5) ∧ τ.2 l0 (l1 + l5) < 128), w_pSmall (τ.2 l0 (l1 + l5)) τ (fun x26 τ26 => ∀ (r26 : -2147483648 ≤ x26 ∧ x26 < 2147483648), (ttg l3 = 104) ∧ (0 ≤ l5 ∧ l5 < tlen l3) ∧ ∀ (r32 : -2147483648 ≤ τ26.2 l3 l5 ∧ τ26.2 l3 l5 < 2147483648), (∀ (c33 : x26 = (τ26.2 l3 l5)), W_pIsWord_13 l0 l1 l3 l4 ((l5 + 1)) τ26 Q) ∧ (∀ (c33 : ¬ x26 = (τ26.2 l3 l5)), Q 0 τ26)))) : W_pIsWord_13 l0 l1 l3 l4 l5 τ Q := sorry
def w_pFind (l1 l2 l3 : Int) (τ : TT) (Q : Int → TT → Prop) : Prop := Hid (TC yX11_pFind cX11_pFind 7 (some .boolean) 3 (rZ Q) (fun o => [(2, o), (0, l1), (2, o + l2), (0, l3)]) τ)
def W_pFind_13 (l1 l2 l3 l4 : Int) (τ : TT) (Q : Int → TT → Prop) : Prop := Hid (TJ cX11_pFind 7 (some .boolean) 3 (rZ Q) 13 (fun o => [(2, o), (0, l1), (2, o + l2), (0, l3), (0, l4), vN, vN]) (fun o => []) τ)
def W_pFind_65 (l1 l4 : Int) (τ : TT) (Q : Int → TT → Prop) : Prop := Hid (TJ cX11_pFind 7 (some .boolean) 3 (rZ Q) 65 (fun o => [(2, o), (0, l1), vN, vN, (0, l4), vN, vN]) (fun o => []) τ)
def W_pFind_91 (l1 l4 l5 l6 : Int) (τ : TT) (Q : Int → TT → Prop) : Prop := Hid (TJ cX11_pFind 7 (some .boolean) 3 (rZ Q) 91 (fun o => [(2, o), (0, l1), vN, vN, (0, l4), (0, l5), (0, l6)]) (fun o => []) τ)
def W_pFind_96 (l1 l4 l5 : Int) (τ : TT) (Q : Int → TT → Prop) : Prop := Hid (TJ cX11_pFind 7 (some .boolean) 3 (rZ Q) 96 (fun o => [(2, o), (0, l1), vN, vN, (0, l4), (0, l5), vN]) (fun o => []) τ)
def W_pFind_168 (l1 l4 : Int) (τ : TT) (Q : Int → TT → Prop) : Prop := Hid (TJ cX11_pFind 7 (some .boolean) 3 (rZ Q) 168 (fun o => [(2, o), (0, l1), vN, vN, (0, l4), vN, vN]) (fun o => []) τ)
def W_pFind_169 (l1 l4 s0 : Int) (τ : TT) (Q : Int → TT → Prop) : Prop := Hid (TJ cX11_pFind 7 (some .boolean) 3 (rZ Q) 169 (fun o => [(2, o), (0, l1), vN, vN, (0, l4), vN, vN]) (fun o => [(0, s0)]) τ)
set_option maxHeartbeats 2000000 in
theorem s_pFind {l1 l2 l3 : Int} {τ : TT} {Q : Int → TT → Prop} (hB : (0 ≤ l1 ∧ l1 < 60) ∧ ∀ (r10 : -2147483648 ≤ τ.2 124 l1 ∧ τ.2 124 l1 < 2147483648), W_pFind_13 l1 l2 l3 ((τ.2 124 l1)) (τ.s 205 0) Q) : w_pFind l1 l2 l3 τ Q := sorry
set_option maxHeartbeats 2000000 in
theorem s_pFind_13 {l1 l2 l3 l4 : Int} {τ : TT} {Q : Int → TT → Prop} (hB : (0 ≤ l1 ∧ l1 < 60) ∧ ∀ (r20 : -2147483648 ≤ τ.2 126 l1 ∧ τ.2 126 l1 < 2147483648), (-2147483648 ≤ l4 ∧ l4 < 2147483648) ∧ (∀ (c21 : (τ.2 126 l1) ≤ l4), W_pFind_65 l1 l4 τ Q) ∧ (∀ (c21 : l4 < (τ.2 126 l1)), w_pColon l4 τ (fun x27 τ27 => ∀ (r27 : -2147483648 ≤ x27 ∧ x27 < 2147483648), (∀ (c31 : x27 = (-1)), W_pFind_13 l1 l2 l3 ((l4 + 1)) τ27 Q) ∧ (∀ (c31 : ¬ x27 = (-1)), (0 ≤ l4 ∧ l4 < 2001) ∧ ∀ (r44 : -2147483648 ≤ τ27.2 122 l4 ∧ τ27.2 122 l4 < 2147483648), w_pColon l4 τ27 (fun x48 τ48 => ∀ (r48 : -2147483648 ≤ x48 ∧ x48 < 2147483648), w_pIsWord 121 (τ27.2 122 l4) x48 l2 l3 τ48 (fun x53 τ53 => ∀ (r53 : x53 = 0 ∨ x53 = 1), (∀ (c56 : ¬ x53 = 0), W_pFind_65 l1 l4 τ53 Q) ∧ (∀ (c56 : x53 = 0), W_pFind_13 l1 l2 l3 ((l4 + 1)) τ53 Q))))))) : W_pFind_13 l1 l2 l3 l4 τ Q := sorry
set_option maxHeartbeats 2000000 in
theorem s_pFind_65 {l1 l4 : Int} {τ : TT} {Q : Int → TT → Prop} (hB : (0 ≤ l1 ∧ l1 < 60) ∧ ∀ (r72 : -2147483648 ≤ τ.2 126 l1 ∧ τ.2 126 l1 < 2147483648), (-2147483648 ≤ l4 ∧ l4 < 2147483648) ∧ (∀ (c73 : l4 < (τ.2 126 l1)), w_pColon l4 τ (fun x81 τ81 => ∀ (r81 : -2147483648 ≤ x81 ∧ x81 < 2147483648), W_pFind_91 l1 l4 ((x81 + 1)) 1 τ81 Q)) ∧ (∀ (c73 : (τ.2 126 l1) ≤ l4), Q 0 τ)) : W_pFind_65 l1 l4 τ Q := sorry
set_option maxHeartbeats 2000000 in
theorem s_pFind_91 {l1 l4 l5 l6 : Int} {τ : TT} {Q : Int → TT → Prop} (hB : (-2147483648 ≤ l6 ∧ l6 < 2147483648) ∧ (∀ (c93 : l6 = 0), Q 1 τ) ∧ (∀ (c93 : ¬ l6 = 0), W_pFind_96 l1 l4 l5 τ Q)) : W_pFind_91 l1 l4 l5 l6 τ Q := sorry
set_option maxHeartbeats 2000000 in
theorem s_pFind_96 {l1 l4 l5 : Int} {τ : TT} {Q : Int → TT → Prop} (hB : (0 ≤ l4 ∧ l4 < 2001) ∧ ∀ (r104 : -2147483648 ≤ τ.2 123 l4 ∧ τ.2 123 l4 < 2147483648), (-2147483648 ≤ l5 ∧ l5 < 2147483648) ∧ (∀ (c105 : (τ.2 123 l4) ≤ l5), (0 ≤ l1 ∧ l1 < 60) ∧ ∀ (r150 : -2147483648 ≤ τ.2 126 l1 ∧ τ.2 126 l1 < 2147483648), (-2147483648 ≤ (l4 + 1) ∧ (l4 + 1) < 2147483648) ∧ (∀ (c151 : (τ.2 126 l1) ≤ (l4 + 1)), W_pFind_168 l1 ((l4 + 1)) τ Q) ∧ (∀ (c151 : (l4 + 1) < (τ.2 126 l1)), w_pColon (l4 + 1) τ (fun x157 τ157 => ∀ (r157 : -2147483648 ≤ x157 ∧ x157 < 2147483648), (∀ (c161 : ¬ x157 = (-1)), W_pFind_168 l1 ((l4 + 1)) τ157 Q) ∧ (∀ (c161 : x157 = (-1)), W_pFind_169 l1 ((l4 + 1)) 1 τ157 Q)))) ∧ (∀ (c105 : l5 < (τ.2 123 l4)), ∀ (r113 : -2147483648 ≤ τ.1 205 ∧ τ.1 205 < 2147483648), (0 ≤ l5 ∧ l5 < 2000) ∧ ∀ (r122 : -128 ≤ τ.2 121 l5 ∧ τ.2 121 l5 < 128), (0 ≤ (τ.1 205) ∧ (τ.1 205) < 2000) ∧ (-2147483648 ≤ ((τ.1 205) + 1) ∧ ((τ.1 205) + 1) < 2147483648) ∧ W_pFind_96 l1 l4 ((l5 + 1)) ((τ.a 137 (τ.1 205) (τ.2 121 l5)).s 205 ((τ.1 205) + 1)) Q)) : W_pFind_96 l1 l4 l5 τ Q := sorry
set_option maxHeartbeats 2000000 in
theorem s_pFind_168 {l1 l4 : Int} {τ : TT} {Q : Int → TT → Prop} (hB : W_pFind_169 l1 l4 0 τ Q) : W_pFind_168 l1 l4 τ Q := sorry
set_option maxHeartbeats 2000000 in
theorem s_pFind_169 {l1 l4 s0 : Int} {τ : TT} {Q : Int → TT → Prop} (hB : (-2147483648 ≤ s0 ∧ s0 < 2147483648) ∧ (∀ (c173 : s0 = 0), W_pFind_91 l1 l4 0 s0 τ Q) ∧ (∀ (c173 : ¬ s0 = 0), (0 ≤ l4 ∧ l4 < 2001) ∧ ∀ (r182 : -2147483648 ≤ τ.2 122 l4 ∧ τ.2 122 l4 < 2147483648), W_pFind_91 l1 l4 ((τ.2 122 l4)) s0 τ Q)) : W_pFind_169 l1 l4 s0 τ Q := sorry
def w_pOver (l1 l2 : Int) (τ : TT) (Q : Int → TT → Prop) : Prop := Hid (TC yX11_pOver cX11_pOver 4 (some .int) 0 (rI Q) (fun o => [(2, o), (0, l1), (0, l2)]) τ)
def W_pOver_19 (l2 l3 : Int) (τ : TT) (Q : Int → TT → Prop) : Prop := Hid (TJ cX11_pOver 4 (some .int) 0 (rI Q) 19 (fun o => [(2, o), vN, (0, l2), (0, l3)]) (fun o => []) τ)
def W_pOver_57 (l2 l3 : Int) (τ : TT) (Q : Int → TT → Prop) : Prop := Hid (TJ cX11_pOver 4 (some .int) 0 (rI Q) 57 (fun o => [vN, vN, (0, l2), (0, l3)]) (fun o => []) τ)
set_option maxHeartbeats 2000000 in
theorem s_pOver {l1 l2 : Int} {τ : TT} {Q : Int → TT → Prop} (hB : (0 ≤ l1 ∧ l1 < 2000) ∧ ∀ (r5 : -128 ≤ τ.2 137 l1 ∧ τ.2 137 l1 < 128), (∀ (c8 : (τ.2 137 l1) = 34), W_pOver_19 l2 ((l1 + 1)) τ Q) ∧ (∀ (c8 : ¬ (τ.2 137 l1) = 34), (-2147483648 ≤ (l1 + 1) ∧ (l1 + 1) < 2147483648) ∧ Q (l1 + 1) τ)) : w_pOver l1 l2 τ Q := sorry
set_option maxHeartbeats 2000000 in
theorem s_pOver_19 {l2 l3 : Int} {τ : TT} {Q : Int → TT → Prop} (hB : (-2147483648 ≤ l3 ∧ l3 < 2147483648) ∧ (-2147483648 ≤ l2 ∧ l2 < 2147483648) ∧ (∀ (c21 : l2 ≤ l3), W_pOver_57 l2 l3 τ Q) ∧ (∀ (c21 : l3 < l2), (0 ≤ l3 ∧ l3 < 2000) ∧ ∀ (r29 : -128 ≤ τ.2 137 l3 ∧ τ.2 137 l3 < 128), (∀ (c32 : (τ.2 137 l3) = 34), W_pOver_57 l2 l3 τ Q) ∧ (∀ (c32 : ¬ (τ.2 137 l3) = 34), ∀ (r41 : -128 ≤ τ.2 137 l3 ∧ τ.2 137 l3 < 128), (∀ (c44 : ¬ (τ.2 137 l3) = 92), W_pOver_19 l2 ((l3 + 1)) τ Q) ∧ (∀ (c44 : (τ.2 137 l3) = 92), W_pOver_19 l2 ((l3 + 2)) τ Q)))) : W_pOver_19 l2 l3 τ Q := sorry
set_option maxHeartbeats 2000000 in
theorem s_pOver_57 {l2 l3 : Int} {τ : TT} {Q : Int → TT → Prop} (hB : (-2147483648 ≤ l3 ∧ l3 < 2147483648) ∧ (-2147483648 ≤ l2 ∧ l2 < 2147483648) ∧ (∀ (c59 : l2 ≤ l3), Q l2 τ) ∧ (∀ (c59 : l3 < l2), (-2147483648 ≤ (l3 + 1) ∧ (l3 + 1) < 2147483648) ∧ Q (l3 + 1) τ)) : W_pOver_57 l2 l3 τ Q := sorry
def w_pTrim (l1 l2 : Int) (τ : TT) (Q : TT → Prop) : Prop := Hid (TC yX11_pTrim cX11_pTrim 3 none 1 (rU Q) (fun o => [(2, o), (0, l1), (0, l2)]) τ)
def W_pTrim_10 (τ : TT) (Q : TT → Prop) : Prop := Hid (TJ cX11_pTrim 3 none 1 (rU Q) 10 (fun o => [(2, o), vN, vN]) (fun o => []) τ)
def W_pTrim_49 (τ : TT) (Q : TT → Prop) : Prop := Hid (TJ cX11_pTrim 3 none 1 (rU Q) 49 (fun o => [(2, o), vN, vN]) (fun o => []) τ)
set_option maxHeartbeats 2000000 in
theorem s_pTrim {l1 l2 : Int} {τ : TT} {Q : TT → Prop} (hB : (-2147483648 ≤ l1 ∧ l1 < 2147483648) ∧ (-2147483648 ≤ l2 ∧ l2 < 2147483648) ∧ W_pTrim_10  ((τ.s 207 l1).s 208 l2) Q) : w_pTrim l1 l2 τ Q := sorry
set_option maxHeartbeats 2000000 in
theorem s_pTrim_10 {τ : TT} {Q : TT → Prop} (hB : ∀ (r11 : -2147483648 ≤ τ.1 207 ∧ τ.1 207 < 2147483648), ∀ (r15 : -2147483648 ≤ τ.1 208 ∧ τ.1 208 < 2147483648), (∀ (c18 : (τ.1 208) ≤ (τ.1 207)), W_pTrim_49  τ Q) ∧ (∀ (c18 : (τ.1 207) < (τ.1 208)), (0 ≤ (τ.1 207) ∧ (τ.1 207) < 2000) ∧ ∀ (r29 : -128 ≤ τ.2 137 (τ.1 207) ∧ τ.2 137 (τ.1 207) < 128), w_pIsBlank (τ.2 137 (τ.1 207)) τ (fun x30 τ30 => ∀ (r30 : x30 = 0 ∨ x30 = 1), (∀ (c33 : x30 = 0), W_pTrim_49  τ30 Q) ∧ (∀ (c33 : ¬ x30 = 0), ∀ (r38 : -2147483648 ≤ τ30.1 207 ∧ τ30.1 207 < 2147483648), (-2147483648 ≤ ((τ30.1 207) + 1) ∧ ((τ30.1 207) + 1) < 2147483648) ∧ W_pTrim_10  (τ30.s 207 ((τ30.1 207) + 1)) Q)))) : W_pTrim_10  τ Q := sorry
set_option maxHeartbeats 2000000 in
theorem s_pTrim_49 {τ : TT} {Q : TT → Prop} (hB : ∀ (r50 : -2147483648 ≤ τ.1 207 ∧ τ.1 207 < 2147483648), ∀ (r54 : -2147483648 ≤ τ.1 208 ∧ τ.1 208 < 2147483648), (∀ (c57 : (τ.1 208) ≤ (τ.1 207)), Q τ) ∧ (∀ (c57 : (τ.1 207) < (τ.1 208)), (0 ≤ ((τ.1 208) - 1) ∧ ((τ.1 208) - 1) < 2000) ∧ ∀ (r70 : -128 ≤ τ.2 137 ((τ.1 208) - 1) ∧ τ.2 137 ((τ.1 208) - 1) < 128), w_pIsBlank (τ.2 137 ((τ.1 208) - 1)) τ (fun x71 τ71 => ∀ (r71 : x71 = 0 ∨ x71 = 1), (∀ (c74 : x71 = 0), Q τ71) ∧ (∀ (c74 : ¬ x71 = 0), ∀ (r79 : -2147483648 ≤ τ71.1 208 ∧ τ71.1 208 < 2147483648), (-2147483648 ≤ ((τ71.1 208) - 1) ∧ ((τ71.1 208) - 1) < 2147483648) ∧ W_pTrim_49  (τ71.s 208 ((τ71.1 208) - 1)) Q)))) : W_pTrim_49  τ Q := sorry
def w_pItemize (τ : TT) (Q : TT → Prop) : Prop := Hid (TC yX11_pItemize cX11_pItemize 3 none 2 (rU Q) (fun o => [(2, o)]) τ)
def W_pItemize_9 (l1 l2 : Int) (τ : TT) (Q : TT → Prop) : Prop := Hid (TJ cX11_pItemize 3 none 2 (rU Q) 9 (fun o => [(2, o), (0, l1), (0, l2)]) (fun o => []) τ)
def W_pItemize_49 (l1 l2 : Int) (τ : TT) (Q : TT → Prop) : Prop := Hid (TJ cX11_pItemize 3 none 2 (rU Q) 49 (fun o => [(2, o), (0, l1), (0, l2)]) (fun o => []) τ)
set_option maxHeartbeats 2000000 in
theorem s_pItemize {τ : TT} {Q : TT → Prop} (hB : W_pItemize_9 0 0 (τ.s 206 0) Q) : w_pItemize  τ Q := sorry
set_option maxHeartbeats 2000000 in
theorem s_pItemize_9 {l1 l2 : Int} {τ : TT} {Q : TT → Prop} (hB : ∀ (r11 : -2147483648 ≤ τ.1 205 ∧ τ.1 205 < 2147483648), (-2147483648 ≤ l2 ∧ l2 < 2147483648) ∧ (∀ (c14 : (τ.1 205) < l2), Q τ) ∧ (∀ (c14 : l2 ≤ (τ.1 205)), (∀ (c22 : (τ.1 205) ≤ l2), W_pItemize_49 l1 l2 τ Q) ∧ (∀ (c22 : l2 < (τ.1 205)), (0 ≤ l2 ∧ l2 < 2000) ∧ ∀ (r30 : -128 ≤ τ.2 137 l2 ∧ τ.2 137 l2 < 128), (∀ (c33 : (τ.2 137 l2) = 59), W_pItemize_49 l1 l2 τ Q) ∧ (∀ (c33 : ¬ (τ.2 137 l2) = 59), w_pOver l2 (τ.1 205) τ (fun x42 τ42 => ∀ (r42 : -2147483648 ≤ x42 ∧ x42 < 2147483648), W_pItemize_9 l1 x42 τ42 Q))))) : W_pItemize_9 l1 l2 τ Q := sorry
set_option maxHeartbeats 2000000 in
theorem s_pItemize_49 {l1 l2 : Int} {τ : TT} {Q : TT → Prop} (hB : w_pTrim l1 l2 τ (fun τ52 => ∀ (r60 : -2147483648 ≤ τ52.1 206 ∧ τ52.1 206 < 2147483648), ∀ (r64 : -2147483648 ≤ τ52.1 207 ∧ τ52.1 207 < 2147483648), (0 ≤ (τ52.1 206) ∧ (τ52.1 206) < 2010) ∧ ∀ (r77 : -2147483648 ≤ τ52.1 208 ∧ τ52.1 208 < 2147483648), (-2147483648 ≤ ((τ52.1 206) + 1) ∧ ((τ52.1 206) + 1) < 2147483648) ∧ W_pItemize_9 ((l2 + 1)) ((l2 + 1)) (((τ52.a 138 (τ52.1 206) (τ52.1 207)).a 139 (τ52.1 206) (τ52.1 208)).s 206 ((τ52.1 206) + 1)) Q)) : W_pItemize_49 l1 l2 τ Q := sorry
def w_pKeep (l1 l2 l3 : Int) (τ : TT) (Q : TT → Prop) : Prop := Hid (TC yX11_pKeep cX11_pKeep 5 none 1 (rU Q) (fun o => [(2, o), (0, l1), (0, l2), (0, l3)]) τ)
def W_pKeep_8 (l2 l3 l4 : Int) (τ : TT) (Q : TT → Prop) : Prop := Hid (TJ cX11_pKeep 5 none 1 (rU Q) 8 (fun o => [(2, o), vN, (0, l2), (0, l3), (0, l4)]) (fun o => []) τ)
def W_pKeep_47 (l2 l3 l4 s0 s1 : Int) (τ : TT) (Q : TT → Prop) : Prop := Hid (TJ cX11_pKeep 5 none 1 (rU Q) 47 (fun o => [(2, o), vN, (0, l2), (0, l3), (0, l4)]) (fun o => [(0, s0), (0, s1), (2, o + 140)]) τ)
set_option maxHeartbeats 2000000 in
theorem s_pKeep {l1 l2 l3 : Int} {τ : TT} {Q : TT → Prop} (hB : W_pKeep_8 l2 l3 l1 (τ.s 212 0) Q) : w_pKeep l1 l2 l3 τ Q := sorry
set_option maxHeartbeats 2000000 in
theorem s_pKeep_8 {l2 l3 l4 : Int} {τ : TT} {Q : TT → Prop} (hB : (-2147483648 ≤ l4 ∧ l4 < 2147483648) ∧ (-2147483648 ≤ l2 ∧ l2 < 2147483648) ∧ (∀ (c11 : l2 ≤ l4), Q τ) ∧ (∀ (c11 : l4 < l2), ∀ (r19 : -2147483648 ≤ τ.1 212 ∧ τ.1 212 < 2147483648), (-2147483648 ≤ l3 ∧ l3 < 2147483648) ∧ (∀ (c23 : l3 = 0), (0 ≤ l4 ∧ l4 < 2000) ∧ ∀ (r46 : -128 ≤ τ.2 137 l4 ∧ τ.2 137 l4 < 128), W_pKeep_47 l2 l3 l4 ((τ.2 137 l4)) ((τ.1 212)) τ Q) ∧ (∀ (c23 : ¬ l3 = 0), (0 ≤ l4 ∧ l4 < 2000) ∧ ∀ (r32 : -128 ≤ τ.2 137 l4 ∧ τ.2 137 l4 < 128), w_pSmall (τ.2 137 l4) τ (fun x33 τ33 => ∀ (r33 : -2147483648 ≤ x33 ∧ x33 < 2147483648), W_pKeep_47 l2 l3 l4 (((x33 + 128) % 256 - 128)) ((τ.1 212)) τ33 Q)))) : W_pKeep_8 l2 l3 l4 τ Q := sorry
set_option maxHeartbeats 2000000 in
theorem s_pKeep_47 {l2 l3 l4 s0 s1 : Int} {τ : TT} {Q : TT → Prop} (hB : (0 ≤ s1 ∧ s1 < 2000) ∧ (-128 ≤ s0 ∧ s0 < 128) ∧ ∀ (r50 : -2147483648 ≤ τ.1 212 ∧ τ.1 212 < 2147483648), (-2147483648 ≤ ((τ.1 212) + 1) ∧ ((τ.1 212) + 1) < 2147483648) ∧ W_pKeep_8 l2 l3 ((l4 + 1)) ((τ.a 140 s1 s0).s 212 ((τ.1 212) + 1)) Q) : W_pKeep_47 l2 l3 l4 s0 s1 τ Q := sorry
def w_pFirstItem (l1 l2 : Int) (τ : TT) (Q : TT → Prop) : Prop := Hid (TC yX11_pFirstItem cX11_pFirstItem 3 none 4 (rU Q) (fun o => [(2, o), (0, l1), (2, o + l2)]) τ)
set_option maxHeartbeats 2000000 in
theorem s_pFirstItem {l1 l2 : Int} {τ : TT} {Q : TT → Prop} (hB : w_pNothing  τ (fun τ1 => (ttg l2 = 104) ∧ w_pFind l1 l2 (tlen l2) τ1 (fun x9 τ9 => ∀ (r9 : x9 = 0 ∨ x9 = 1), (∀ (c12 : ¬ x9 = 0), w_pItemize  τ9 (fun τ17 => ∀ (r26 : -2147483648 ≤ τ17.2 138 0 ∧ τ17.2 138 0 < 2147483648), ∀ (r32 : -2147483648 ≤ τ17.2 139 0 ∧ τ17.2 139 0 < 2147483648), w_pKeep (τ17.2 138 0) (τ17.2 139 0) 1 τ17 (fun τ34 => Q τ34))) ∧ (∀ (c12 : x9 = 0), Q τ9)))) : w_pFirstItem l1 l2 τ Q := sorry
def w_pIsType (τ : TT) (Q : Int → TT → Prop) : Prop := Hid (TC yX11_pIsType cX11_pIsType 3 (some .boolean) 1 (rZ Q) (fun o => [(2, o)]) τ)
def W_pIsType_4 (l1 l2 : Int) (τ : TT) (Q : Int → TT → Prop) : Prop := Hid (TJ cX11_pIsType 3 (some .boolean) 1 (rZ Q) 4 (fun o => [(2, o), (0, l1), (0, l2)]) (fun o => []) τ)
def W_pIsType_55 (l2 : Int) (τ : TT) (Q : Int → TT → Prop) : Prop := Hid (TJ cX11_pIsType 3 (some .boolean) 1 (rZ Q) 55 (fun o => [(2, o), vN, (0, l2)]) (fun o => []) τ)
def W_pIsType_59 (l2 : Int) (τ : TT) (Q : Int → TT → Prop) : Prop := Hid (TJ cX11_pIsType 3 (some .boolean) 1 (rZ Q) 59 (fun o => [(2, o), vN, (0, l2)]) (fun o => []) τ)
set_option maxHeartbeats 2000000 in
theorem s_pIsType {τ : TT} {Q : Int → TT → Prop} (hB : W_pIsType_4 0 0 τ Q) : w_pIsType  τ Q := sorry
set_option maxHeartbeats 2000000 in
theorem s_pIsType_4 {l1 l2 : Int} {τ : TT} {Q : Int → TT → Prop} (hB : ∀ (r6 : -2147483648 ≤ τ.1 212 ∧ τ.1 212 < 2147483648), (-2147483648 ≤ l2 ∧ l2 < 2147483648) ∧ (∀ (c9 : (τ.1 212) ≤ l2), (l1 = 0 ∨ l1 = 1) ∧ Q l1 τ) ∧ (∀ (c9 : l2 < (τ.1 212)), (0 ≤ l2 ∧ l2 < 2000) ∧ ∀ (r17 : -128 ≤ τ.2 140 l2 ∧ τ.2 140 l2 < 128), w_pIsBlank (τ.2 140 l2) τ (fun x18 τ18 => ∀ (r18 : x18 = 0 ∨ x18 = 1), (∀ (c21 : x18 = 0), (-2147483648 ≤ l1 ∧ l1 < 2147483648) ∧ (∀ (c27 : ¬ l1 = 0), W_pIsType_55 l2 τ18 Q) ∧ (∀ (c27 : l1 = 0), ∀ (r35 : -128 ≤ τ18.2 140 l2 ∧ τ18.2 140 l2 < 128), (∀ (c38 : ¬ (τ18.2 140 l2) = 47), W_pIsType_59 l2 τ18 Q) ∧ (∀ (c38 : (τ18.2 140 l2) = 47), (∀ (c42 : l2 ≤ 0), W_pIsType_59 l2 τ18 Q) ∧ (∀ (c42 : 0 < l2), ∀ (r47 : -2147483648 ≤ τ18.1 212 ∧ τ18.1 212 < 2147483648), (-2147483648 ≤ ((τ18.1 212) - 1) ∧ ((τ18.1 212) - 1) < 2147483648) ∧ (∀ (c52 : ((τ18.1 212) - 1) ≤ l2), W_pIsType_59 l2 τ18 Q) ∧ (∀ (c52 : l2 < ((τ18.1 212) - 1)), W_pIsType_55 l2 τ18 Q))))) ∧ (∀ (c21 : ¬ x18 = 0), Q 0 τ18)))) : W_pIsType_4 l1 l2 τ Q := sorry
set_option maxHeartbeats 2000000 in
theorem s_pIsType_55 {l2 : Int} {τ : TT} {Q : Int → TT → Prop} (hB : W_pIsType_4 1 ((l2 + 1)) τ Q) : W_pIsType_55 l2 τ Q := sorry
set_option maxHeartbeats 2000000 in
theorem s_pIsType_59 {l2 : Int} {τ : TT} {Q : Int → TT → Prop} (hB : W_pIsType_4 0 ((l2 + 1)) τ Q) : W_pIsType_59 l2 τ Q := sorry
def w_pIsGot (l1 : Int) (τ : TT) (Q : Int → TT → Prop) : Prop := Hid (TC yX11_pIsGot cX11_pIsGot 2 (some .boolean) 2 (rZ Q) (fun o => [(2, o), (2, o + l1)]) τ)
set_option maxHeartbeats 2000000 in
theorem s_pIsGot {l1 : Int} {τ : TT} {Q : Int → TT → Prop} (hB : ∀ (r6 : -2147483648 ≤ τ.1 212 ∧ τ.1 212 < 2147483648), (ttg l1 = 104) ∧ w_pIsWord 140 0 (τ.1 212) l1 (tlen l1) τ (fun x12 τ12 => ∀ (r12 : x12 = 0 ∨ x12 = 1), Q x12 τ12)) : w_pIsGot l1 τ Q := sorry
def w_pSet (l1 : Int) (τ : TT) (Q : TT → Prop) : Prop := Hid (TC yX11_pSet cX11_pSet 3 none 0 (rU Q) (fun o => [(2, o), (2, o + l1)]) τ)
def W_pSet_8 (l1 l2 : Int) (τ : TT) (Q : TT → Prop) : Prop := Hid (TJ cX11_pSet 3 none 0 (rU Q) 8 (fun o => [(2, o), (2, o + l1), (0, l2)]) (fun o => []) τ)
set_option maxHeartbeats 2000000 in
theorem s_pSet {l1 : Int} {τ : TT} {Q : TT → Prop} (hB : (ttg l1 = 104) ∧ (-2147483648 ≤ (tlen l1) ∧ (tlen l1) < 2147483648) ∧ W_pSet_8 l1 0 (τ.s 212 (tlen l1)) Q) : w_pSet l1 τ Q := sorry
set_option maxHeartbeats 2000000 in
theorem s_pSet_8 {l1 l2 : Int} {τ : TT} {Q : TT → Prop} (hB : (ttg l1 = 104) ∧ (-2147483648 ≤ l2 ∧ l2 < 2147483648) ∧ (-2147483648 ≤ (tlen l1) ∧ (tlen l1) < 2147483648) ∧ (∀ (c11 : (tlen l1) ≤ l2), Q τ) ∧ (∀ (c11 : l2 < (tlen l1)), (0 ≤ l2 ∧ l2 < tlen l1) ∧ ∀ (r21 : -2147483648 ≤ τ.2 l1 l2 ∧ τ.2 l1 l2 < 2147483648), (0 ≤ l2 ∧ l2 < 2000) ∧ W_pSet_8 l1 ((l2 + 1)) (τ.a 140 l2 (((τ.2 l1 l2) + 128) % 256 - 128)) Q)) : W_pSet_8 l1 l2 τ Q := sorry
def w_pType (l1 : Int) (τ : TT) (Q : TT → Prop) : Prop := Hid (TC yX11_pType cX11_pType 3 none 5 (rU Q) (fun o => [(2, o), (0, l1)]) τ)
def W_pType_67 (l2 : Int) (τ : TT) (Q : TT → Prop) : Prop := Hid (TJ cX11_pType 3 none 5 (rU Q) 67 (fun o => [(2, o), vN, (0, l2)]) (fun o => []) τ)
def W_pType_83 (s0 : Int) (τ : TT) (Q : TT → Prop) : Prop := Hid (TJ cX11_pType 3 none 5 (rU Q) 83 (fun o => [vN, vN, vN]) (fun o => [(2, o + s0), (2, o)]) τ)
set_option maxHeartbeats 2000000 in
theorem s_pType {l1 : Int} {τ : TT} {Q : TT → Prop} (hB : w_pFirstItem l1 104 τ (fun τ6 => w_pIsType  τ6 (fun x10 τ10 => ∀ (r10 : x10 = 0 ∨ x10 = 1), (∀ (c13 : x10 = 0), (0 ≤ l1 ∧ l1 < 60) ∧ ∀ (r24 : -2147483648 ≤ τ10.2 128 l1 ∧ τ10.2 128 l1 < 2147483648), (∀ (c26 : (τ10.2 128 l1) = (-1)), W_pType_67 0 τ10 Q) ∧ (∀ (c26 : ¬ (τ10.2 128 l1) = (-1)), ∀ (r38 : -2147483648 ≤ τ10.2 128 l1 ∧ τ10.2 128 l1 < 2147483648), (0 ≤ (τ10.2 128 l1) ∧ (τ10.2 128 l1) < 60) ∧ ∀ (r39 : -2147483648 ≤ τ10.2 130 (τ10.2 128 l1) ∧ τ10.2 130 (τ10.2 128 l1) < 2147483648), (∀ (c41 : ¬ (τ10.2 130 (τ10.2 128 l1)) = 1), W_pType_67 0 τ10 Q) ∧ (∀ (c41 : (τ10.2 130 (τ10.2 128 l1)) = 1), ∀ (r50 : -2147483648 ≤ τ10.2 128 l1 ∧ τ10.2 128 l1 < 2147483648), w_pFirstItem (τ10.2 128 l1) 104 τ10 (fun τ55 => w_pIsGot 114 τ55 (fun x63 τ63 => ∀ (r63 : x63 = 0 ∨ x63 = 1), W_pType_67 x63 τ63 Q))))) ∧ (∀ (c13 : ¬ x10 = 0), Q τ10)))) : w_pType l1 τ Q := sorry
set_option maxHeartbeats 2000000 in
theorem s_pType_67 {l2 : Int} {τ : TT} {Q : TT → Prop} (hB : (-2147483648 ≤ l2 ∧ l2 < 2147483648) ∧ (∀ (c69 : l2 = 0), W_pType_83 110 τ Q) ∧ (∀ (c69 : ¬ l2 = 0), W_pType_83 116 τ Q)) : W_pType_67 l2 τ Q := sorry
set_option maxHeartbeats 2000000 in
theorem s_pType_83 {s0 : Int} {τ : TT} {Q : TT → Prop} (hB : w_pSet s0 τ (fun τ83 => Q τ83)) : W_pType_83 s0 τ Q := sorry
def w_pBegins (l1 : Int) (τ : TT) (Q : Int → TT → Prop) : Prop := Hid (TC yX11_pBegins cX11_pBegins 2 (some .boolean) 2 (rZ Q) (fun o => [(2, o), (2, o + l1)]) τ)
set_option maxHeartbeats 2000000 in
theorem s_pBegins {l1 : Int} {τ : TT} {Q : Int → TT → Prop} (hB : ∀ (r1 : -2147483648 ≤ τ.1 212 ∧ τ.1 212 < 2147483648), (ttg l1 = 104) ∧ (-2147483648 ≤ (tlen l1) ∧ (tlen l1) < 2147483648) ∧ (∀ (c6 : (τ.1 212) < (tlen l1)), Q 0 τ) ∧ (∀ (c6 : (tlen l1) ≤ (τ.1 212)), w_pIsWord 140 0 (tlen l1) l1 (tlen l1) τ (fun x19 τ19 => ∀ (r19 : x19 = 0 ∨ x19 = 1), (∀ (c22 : x19 = 0), Q 0 τ19) ∧ (∀ (c22 : ¬ x19 = 0), Q 1 τ19)))) : w_pBegins l1 τ Q := sorry
def w_pUnquote (τ : TT) (Q : TT → Prop) : Prop := Hid (TC yX11_pUnquote cX11_pUnquote 3 none 2 (rU Q) (fun o => [(2, o)]) τ)
def W_pUnquote_29 (τ : TT) (Q : TT → Prop) : Prop := Hid (TJ cX11_pUnquote 3 none 2 (rU Q) 29 (fun o => [(2, o), vN, vN]) (fun o => []) τ)
def W_pUnquote_30 (s0 : Int) (τ : TT) (Q : TT → Prop) : Prop := Hid (TJ cX11_pUnquote 3 none 2 (rU Q) 30 (fun o => [(2, o), vN, vN]) (fun o => [(0, s0)]) τ)
def W_pUnquote_43 (l1 l2 : Int) (τ : TT) (Q : TT → Prop) : Prop := Hid (TJ cX11_pUnquote 3 none 2 (rU Q) 43 (fun o => [(2, o), (0, l1), (0, l2)]) (fun o => []) τ)
def W_pUnquote_119 (l1 l2 : Int) (τ : TT) (Q : TT → Prop) : Prop := Hid (TJ cX11_pUnquote 3 none 2 (rU Q) 119 (fun o => [(2, o), (0, l1), (0, l2)]) (fun o => []) τ)
def W_pUnquote_80 (l1 l2 : Int) (τ : TT) (Q : TT → Prop) : Prop := Hid (TJ cX11_pUnquote 3 none 2 (rU Q) 80 (fun o => [(2, o), (0, l1), (0, l2)]) (fun o => []) τ)
def W_pUnquote_131 (τ : TT) (Q : TT → Prop) : Prop := Hid (TJ cX11_pUnquote 3 none 2 (rU Q) 131 (fun o => [(2, o), vN, vN]) (fun o => []) τ)
set_option maxHeartbeats 2000000 in
theorem s_pUnquote {τ : TT} {Q : TT → Prop} (hB : ∀ (r1 : -2147483648 ≤ τ.1 207 ∧ τ.1 207 < 2147483648), ∀ (r5 : -2147483648 ≤ τ.1 208 ∧ τ.1 208 < 2147483648), (∀ (c8 : (τ.1 208) ≤ (τ.1 207)), W_pUnquote_29  τ Q) ∧ (∀ (c8 : (τ.1 207) < (τ.1 208)), (0 ≤ (τ.1 207) ∧ (τ.1 207) < 2000) ∧ ∀ (r19 : -128 ≤ τ.2 137 (τ.1 207) ∧ τ.2 137 (τ.1 207) < 128), (∀ (c22 : ¬ (τ.2 137 (τ.1 207)) = 34), W_pUnquote_29  τ Q) ∧ (∀ (c22 : (τ.2 137 (τ.1 207)) = 34), W_pUnquote_30 1 τ Q))) : w_pUnquote  τ Q := sorry
set_option maxHeartbeats 2000000 in
theorem s_pUnquote_29 {τ : TT} {Q : TT → Prop} (hB : W_pUnquote_30 0 τ Q) : W_pUnquote_29  τ Q := sorry
set_option maxHeartbeats 2000000 in
theorem s_pUnquote_30 {s0 : Int} {τ : TT} {Q : TT → Prop} (hB : ∀ (r32 : -2147483648 ≤ τ.1 207 ∧ τ.1 207 < 2147483648), W_pUnquote_43 s0 (((τ.1 207) + 1)) (τ.s 212 0) Q) : W_pUnquote_30 s0 τ Q := sorry
set_option maxHeartbeats 2000000 in
theorem s_pUnquote_43 {l1 l2 : Int} {τ : TT} {Q : TT → Prop} (hB : (-2147483648 ≤ l1 ∧ l1 < 2147483648) ∧ (∀ (c44 : l1 = 0), W_pUnquote_119 l1 l2 τ Q) ∧ (∀ (c44 : ¬ l1 = 0), ∀ (r49 : -2147483648 ≤ τ.1 208 ∧ τ.1 208 < 2147483648), (-2147483648 ≤ l2 ∧ l2 < 2147483648) ∧ (∀ (c52 : (τ.1 208) ≤ l2), W_pUnquote_119 l1 l2 τ Q) ∧ (∀ (c52 : l2 < (τ.1 208)), (0 ≤ l2 ∧ l2 < 2000) ∧ ∀ (r60 : -128 ≤ τ.2 137 l2 ∧ τ.2 137 l2 < 128), (∀ (c63 : (τ.2 137 l2) = 34), W_pUnquote_119 l1 l2 τ Q) ∧ (∀ (c63 : ¬ (τ.2 137 l2) = 34), ∀ (r71 : -128 ≤ τ.2 137 l2 ∧ τ.2 137 l2 < 128), (∀ (c74 : ¬ (τ.2 137 l2) = 92), W_pUnquote_80 l1 l2 τ Q) ∧ (∀ (c74 : (τ.2 137 l2) = 92), W_pUnquote_80 l1 ((l2 + 1)) τ Q))))) : W_pUnquote_43 l1 l2 τ Q := sorry
set_option maxHeartbeats 2000000 in
theorem s_pUnquote_119 {l1 l2 : Int} {τ : TT} {Q : TT → Prop} (hB : (-2147483648 ≤ l1 ∧ l1 < 2147483648) ∧ (∀ (c120 : l1 = 0), W_pUnquote_131  τ Q) ∧ (∀ (c120 : ¬ l1 = 0), ∀ (r125 : -2147483648 ≤ τ.1 208 ∧ τ.1 208 < 2147483648), (-2147483648 ≤ l2 ∧ l2 < 2147483648) ∧ (∀ (c128 : l2 < (τ.1 208)), Q τ) ∧ (∀ (c128 : (τ.1 208) ≤ l2), W_pUnquote_131  τ Q))) : W_pUnquote_119 l1 l2 τ Q := sorry
set_option maxHeartbeats 2000000 in
theorem s_pUnquote_80 {l1 l2 : Int} {τ : TT} {Q : TT → Prop} (hB : ∀ (r82 : -2147483648 ≤ τ.1 208 ∧ τ.1 208 < 2147483648), (-2147483648 ≤ l2 ∧ l2 < 2147483648) ∧ (∀ (c85 : (τ.1 208) ≤ l2), W_pUnquote_43 l1 ((l2 + 1)) τ Q) ∧ (∀ (c85 : l2 < (τ.1 208)), ∀ (r93 : -2147483648 ≤ τ.1 212 ∧ τ.1 212 < 2147483648), (0 ≤ l2 ∧ l2 < 2000) ∧ ∀ (r101 : -128 ≤ τ.2 137 l2 ∧ τ.2 137 l2 < 128), (0 ≤ (τ.1 212) ∧ (τ.1 212) < 2000) ∧ (-2147483648 ≤ ((τ.1 212) + 1) ∧ ((τ.1 212) + 1) < 2147483648) ∧ W_pUnquote_43 l1 ((l2 + 1)) ((τ.a 140 (τ.1 212) (τ.2 137 l2)).s 212 ((τ.1 212) + 1)) Q)) : W_pUnquote_80 l1 l2 τ Q := sorry
set_option maxHeartbeats 2000000 in
theorem s_pUnquote_131 {τ : TT} {Q : TT → Prop} (hB : ∀ (r133 : -2147483648 ≤ τ.1 207 ∧ τ.1 207 < 2147483648), ∀ (r137 : -2147483648 ≤ τ.1 208 ∧ τ.1 208 < 2147483648), w_pKeep (τ.1 207) (τ.1 208) 0 τ (fun τ141 => Q τ141)) : W_pUnquote_131  τ Q := sorry
def w_pParameterOf (l1 l2 : Int) (τ : TT) (Q : Int → TT → Prop) : Prop := Hid (TC yX11_pParameterOf cX11_pParameterOf 5 (some .boolean) 3 (rZ Q) (fun o => [(2, o), (2, o + l1), (0, l2)]) τ)
def W_pParameterOf_10 (l1 l2 l3 : Int) (τ : TT) (Q : Int → TT → Prop) : Prop := Hid (TJ cX11_pParameterOf 5 (some .boolean) 3 (rZ Q) 10 (fun o => [(2, o), (2, o + l1), (0, l2), (0, l3), vN]) (fun o => []) τ)
def W_pParameterOf_26 (l1 l2 l3 l4 : Int) (τ : TT) (Q : Int → TT → Prop) : Prop := Hid (TJ cX11_pParameterOf 5 (some .boolean) 3 (rZ Q) 26 (fun o => [(2, o), (2, o + l1), (0, l2), (0, l3), (0, l4)]) (fun o => []) τ)
def W_pParameterOf_66 (l1 l2 l3 l4 : Int) (τ : TT) (Q : Int → TT → Prop) : Prop := Hid (TJ cX11_pParameterOf 5 (some .boolean) 3 (rZ Q) 66 (fun o => [(2, o), (2, o + l1), (0, l2), (0, l3), (0, l4)]) (fun o => []) τ)
set_option maxHeartbeats 2000000 in
theorem s_pParameterOf {l1 l2 : Int} {τ : TT} {Q : Int → TT → Prop} (hB : w_pNothing  τ (fun τ1 => w_pItemize  τ1 (fun τ5 => W_pParameterOf_10 l1 l2 1 τ5 Q))) : w_pParameterOf l1 l2 τ Q := sorry
set_option maxHeartbeats 2000000 in
theorem s_pParameterOf_10 {l1 l2 l3 : Int} {τ : TT} {Q : Int → TT → Prop} (hB : ∀ (r12 : -2147483648 ≤ τ.1 206 ∧ τ.1 206 < 2147483648), (-2147483648 ≤ l3 ∧ l3 < 2147483648) ∧ (∀ (c15 : (τ.1 206) ≤ l3), Q 0 τ) ∧ (∀ (c15 : l3 < (τ.1 206)), (0 ≤ l3 ∧ l3 < 2010) ∧ ∀ (r23 : -2147483648 ≤ τ.2 138 l3 ∧ τ.2 138 l3 < 2147483648), W_pParameterOf_26 l1 l2 l3 ((τ.2 138 l3)) τ Q)) : W_pParameterOf_10 l1 l2 l3 τ Q := sorry
set_option maxHeartbeats 2000000 in
theorem s_pParameterOf_26 {l1 l2 l3 l4 : Int} {τ : TT} {Q : Int → TT → Prop} (hB : (0 ≤ l3 ∧ l3 < 2010) ∧ ∀ (r33 : -2147483648 ≤ τ.2 139 l3 ∧ τ.2 139 l3 < 2147483648), (-2147483648 ≤ l4 ∧ l4 < 2147483648) ∧ (∀ (c34 : (τ.2 139 l3) ≤ l4), W_pParameterOf_66 l1 l2 l3 l4 τ Q) ∧ (∀ (c34 : l4 < (τ.2 139 l3)), (0 ≤ l4 ∧ l4 < 2000) ∧ ∀ (r43 : -128 ≤ τ.2 137 l4 ∧ τ.2 137 l4 < 128), (∀ (c46 : (τ.2 137 l4) = 61), W_pParameterOf_66 l1 l2 l3 l4 τ Q) ∧ (∀ (c46 : ¬ (τ.2 137 l4) = 61), ∀ (r57 : -2147483648 ≤ τ.2 139 l3 ∧ τ.2 139 l3 < 2147483648), w_pOver l4 (τ.2 139 l3) τ (fun x58 τ58 => ∀ (r58 : -2147483648 ≤ x58 ∧ x58 < 2147483648), W_pParameterOf_26 l1 l2 l3 x58 τ58 Q)))) : W_pParameterOf_26 l1 l2 l3 l4 τ Q := sorry
set_option maxHeartbeats 2000000 in
theorem s_pParameterOf_66 {l1 l2 l3 l4 : Int} {τ : TT} {Q : Int → TT → Prop} (hB : (0 ≤ l3 ∧ l3 < 2010) ∧ ∀ (r73 : -2147483648 ≤ τ.2 139 l3 ∧ τ.2 139 l3 < 2147483648), (-2147483648 ≤ l4 ∧ l4 < 2147483648) ∧ (∀ (c74 : l4 < (τ.2 139 l3)), ∀ (r86 : -2147483648 ≤ τ.2 138 l3 ∧ τ.2 138 l3 < 2147483648), w_pTrim (τ.2 138 l3) l4 τ (fun τ89 => ∀ (r97 : -2147483648 ≤ τ89.1 207 ∧ τ89.1 207 < 2147483648), ∀ (r101 : -2147483648 ≤ τ89.1 208 ∧ τ89.1 208 < 2147483648), w_pIsWord 137 (τ89.1 207) (τ89.1 208) l1 l2 τ89 (fun x106 τ106 => ∀ (r106 : x106 = 0 ∨ x106 = 1), (∀ (c109 : ¬ x106 = 0), ∀ (r125 : -2147483648 ≤ τ106.2 139 l3 ∧ τ106.2 139 l3 < 2147483648), w_pTrim (l4 + 1) (τ106.2 139 l3) τ106 (fun τ126 => w_pUnquote  τ126 (fun τ130 => Q 1 τ130))) ∧ (∀ (c109 : x106 = 0), W_pParameterOf_10 l1 l2 ((l3 + 1)) τ106 Q)))) ∧ (∀ (c74 : (τ.2 139 l3) ≤ l4), W_pParameterOf_10 l1 l2 ((l3 + 1)) τ Q)) : W_pParameterOf_66 l1 l2 l3 l4 τ Q := sorry
def w_pIsMulti (l1 : Int) (τ : TT) (Q : Int → TT → Prop) : Prop := Hid (TC yX11_pIsMulti cX11_pIsMulti 3 (some .boolean) 6 (rZ Q) (fun o => [(2, o), (0, l1)]) τ)
def W_pIsMulti_61 (l2 : Int) (τ : TT) (Q : Int → TT → Prop) : Prop := Hid (TJ cX11_pIsMulti 3 (some .boolean) 6 (rZ Q) 61 (fun o => [(2, o), vN, (0, l2)]) (fun o => []) τ)
set_option maxHeartbeats 2000000 in
theorem s_pIsMulti {l1 : Int} {τ : TT} {Q : Int → TT → Prop} (hB : w_pType l1 τ (fun τ2 => w_pBegins 113 τ2 (fun x10 τ10 => ∀ (r10 : x10 = 0 ∨ x10 = 1), (∀ (c13 : x10 = 0), Q 0 τ10) ∧ (∀ (c13 : ¬ x10 = 0), w_pFind l1 104 12 τ10 (fun x27 τ27 => ∀ (r27 : x27 = 0 ∨ x27 = 1), (∀ (c30 : x27 = 0), Q 0 τ27) ∧ (∀ (c30 : ¬ x27 = 0), w_pParameterOf 107 8 τ27 (fun x43 τ43 => ∀ (r43 : x43 = 0 ∨ x43 = 1), (∀ (c46 : ¬ x43 = 0), ∀ (r53 : -2147483648 ≤ τ43.1 212 ∧ τ43.1 212 < 2147483648), W_pIsMulti_61 0 (τ43.s 214 (τ43.1 212)) Q) ∧ (∀ (c46 : x43 = 0), Q 0 τ43)))))))) : w_pIsMulti l1 τ Q := sorry
set_option maxHeartbeats 2000000 in
theorem s_pIsMulti_61 {l2 : Int} {τ : TT} {Q : Int → TT → Prop} (hB : ∀ (r63 : -2147483648 ≤ τ.1 212 ∧ τ.1 212 < 2147483648), (-2147483648 ≤ l2 ∧ l2 < 2147483648) ∧ (∀ (c66 : (τ.1 212) ≤ l2), ∀ (r88 : -2147483648 ≤ τ.1 214 ∧ τ.1 214 < 2147483648), (∀ (c92 : (τ.1 214) < 1), Q 0 τ) ∧ (∀ (c92 : 1 ≤ (τ.1 214)), (∀ (c101 : 70 < (τ.1 214)), Q 0 τ) ∧ (∀ (c101 : (τ.1 214) ≤ 70), Q 1 τ))) ∧ (∀ (c66 : l2 < (τ.1 212)), (0 ≤ l2 ∧ l2 < 2000) ∧ ∀ (r79 : -128 ≤ τ.2 140 l2 ∧ τ.2 140 l2 < 128), W_pIsMulti_61 ((l2 + 1)) (τ.a 141 l2 (τ.2 140 l2)) Q)) : W_pIsMulti_61 l2 τ Q := sorry
def w_pMarked (l1 : Int) (τ : TT) (Q : Int → TT → Prop) : Prop := Hid (TC yX11_pMarked cX11_pMarked 4 (some .int) 1 (rI Q) (fun o => [(2, o), (0, l1)]) τ)
def W_pMarked_52 (l1 l2 l3 : Int) (τ : TT) (Q : Int → TT → Prop) : Prop := Hid (TJ cX11_pMarked 4 (some .int) 1 (rI Q) 52 (fun o => [(2, o), (0, l1), (0, l2), (0, l3)]) (fun o => []) τ)
def W_pMarked_136 (l1 l2 : Int) (τ : TT) (Q : Int → TT → Prop) : Prop := Hid (TJ cX11_pMarked 4 (some .int) 1 (rI Q) 136 (fun o => [(2, o), (0, l1), (0, l2), vN]) (fun o => []) τ)
def W_pMarked_137 (l1 l2 s0 : Int) (τ : TT) (Q : Int → TT → Prop) : Prop := Hid (TJ cX11_pMarked 4 (some .int) 1 (rI Q) 137 (fun o => [(2, o), (0, l1), (0, l2), vN]) (fun o => [(0, s0)]) τ)
def W_pMarked_150 (l1 l2 l3 : Int) (τ : TT) (Q : Int → TT → Prop) : Prop := Hid (TJ cX11_pMarked 4 (some .int) 1 (rI Q) 150 (fun o => [(2, o), (0, l1), (0, l2), (0, l3)]) (fun o => []) τ)
def W_pMarked_178 (l1 l2 l3 : Int) (τ : TT) (Q : Int → TT → Prop) : Prop := Hid (TJ cX11_pMarked 4 (some .int) 1 (rI Q) 178 (fun o => [(2, o), (0, l1), (0, l2), (0, l3)]) (fun o => []) τ)
set_option maxHeartbeats 2000000 in
theorem s_pMarked {l1 : Int} {τ : TT} {Q : Int → TT → Prop} (hB : (0 ≤ l1 ∧ l1 < 2001) ∧ ∀ (r5 : -2147483648 ≤ τ.2 122 l1 ∧ τ.2 122 l1 < 2147483648), ∀ (r12 : -2147483648 ≤ τ.2 123 l1 ∧ τ.2 123 l1 < 2147483648), ∀ (r16 : -2147483648 ≤ τ.1 214 ∧ τ.1 214 < 2147483648), (-2147483648 ≤ ((τ.2 123 l1) - (τ.2 122 l1)) ∧ ((τ.2 123 l1) - (τ.2 122 l1)) < 2147483648) ∧ (-2147483648 ≤ ((τ.1 214) + 2) ∧ ((τ.1 214) + 2) < 2147483648) ∧ (∀ (c21 : ((τ.2 123 l1) - (τ.2 122 l1)) < ((τ.1 214) + 2)), Q 0 τ) ∧ (∀ (c21 : ((τ.1 214) + 2) ≤ ((τ.2 123 l1) - (τ.2 122 l1))), (0 ≤ (τ.2 122 l1) ∧ (τ.2 122 l1) < 2000) ∧ ∀ (r29 : -128 ≤ τ.2 121 (τ.2 122 l1) ∧ τ.2 121 (τ.2 122 l1) < 128), (∀ (c32 : ¬ (τ.2 121 (τ.2 122 l1)) = 45), Q 0 τ) ∧ (∀ (c32 : (τ.2 121 (τ.2 122 l1)) = 45), (0 ≤ ((τ.2 122 l1) + 1) ∧ ((τ.2 122 l1) + 1) < 2000) ∧ ∀ (r42 : -128 ≤ τ.2 121 ((τ.2 122 l1) + 1) ∧ τ.2 121 ((τ.2 122 l1) + 1) < 128), (∀ (c45 : (τ.2 121 ((τ.2 122 l1) + 1)) = 45), W_pMarked_52 l1 ((τ.2 122 l1)) 0 τ Q) ∧ (∀ (c45 : ¬ (τ.2 121 ((τ.2 122 l1) + 1)) = 45), Q 0 τ)))) : w_pMarked l1 τ Q := sorry
set_option maxHeartbeats 2000000 in
theorem s_pMarked_52 {l1 l2 l3 : Int} {τ : TT} {Q : Int → TT → Prop} (hB : ∀ (r54 : -2147483648 ≤ τ.1 214 ∧ τ.1 214 < 2147483648), (-2147483648 ≤ l3 ∧ l3 < 2147483648) ∧ (∀ (c57 : (τ.1 214) ≤ l3), (0 ≤ l1 ∧ l1 < 2001) ∧ ∀ (r104 : -2147483648 ≤ τ.2 123 l1 ∧ τ.2 123 l1 < 2147483648), (-2147483648 ≤ ((l2 + (2 + (τ.1 214))) + 1) ∧ ((l2 + (2 + (τ.1 214))) + 1) < 2147483648) ∧ (∀ (c105 : (τ.2 123 l1) ≤ ((l2 + (2 + (τ.1 214))) + 1)), W_pMarked_136 l1 ((l2 + (2 + (τ.1 214)))) τ Q) ∧ (∀ (c105 : ((l2 + (2 + (τ.1 214))) + 1) < (τ.2 123 l1)), (0 ≤ (l2 + (2 + (τ.1 214))) ∧ (l2 + (2 + (τ.1 214))) < 2000) ∧ ∀ (r113 : -128 ≤ τ.2 121 (l2 + (2 + (τ.1 214))) ∧ τ.2 121 (l2 + (2 + (τ.1 214))) < 128), (∀ (c116 : ¬ (τ.2 121 (l2 + (2 + (τ.1 214)))) = 45), W_pMarked_136 l1 ((l2 + (2 + (τ.1 214)))) τ Q) ∧ (∀ (c116 : (τ.2 121 (l2 + (2 + (τ.1 214)))) = 45), (0 ≤ ((l2 + (2 + (τ.1 214))) + 1) ∧ ((l2 + (2 + (τ.1 214))) + 1) < 2000) ∧ ∀ (r126 : -128 ≤ τ.2 121 ((l2 + (2 + (τ.1 214))) + 1) ∧ τ.2 121 ((l2 + (2 + (τ.1 214))) + 1) < 128), (∀ (c129 : ¬ (τ.2 121 ((l2 + (2 + (τ.1 214))) + 1)) = 45), W_pMarked_136 l1 ((l2 + (2 + (τ.1 214)))) τ Q) ∧ (∀ (c129 : (τ.2 121 ((l2 + (2 + (τ.1 214))) + 1)) = 45), W_pMarked_137 l1 ((l2 + (2 + (τ.1 214)))) 1 τ Q)))) ∧ (∀ (c57 : l3 < (τ.1 214)), (0 ≤ ((l2 + 2) + l3) ∧ ((l2 + 2) + l3) < 2000) ∧ ∀ (r69 : -128 ≤ τ.2 121 ((l2 + 2) + l3) ∧ τ.2 121 ((l2 + 2) + l3) < 128), (0 ≤ l3 ∧ l3 < 2000) ∧ ∀ (r75 : -128 ≤ τ.2 141 l3 ∧ τ.2 141 l3 < 128), (∀ (c76 : (τ.2 121 ((l2 + 2) + l3)) = (τ.2 141 l3)), W_pMarked_52 l1 l2 ((l3 + 1)) τ Q) ∧ (∀ (c76 : ¬ (τ.2 121 ((l2 + 2) + l3)) = (τ.2 141 l3)), Q 0 τ))) : W_pMarked_52 l1 l2 l3 τ Q := sorry
set_option maxHeartbeats 2000000 in
theorem s_pMarked_136 {l1 l2 : Int} {τ : TT} {Q : Int → TT → Prop} (hB : W_pMarked_137 l1 l2 0 τ Q) : W_pMarked_136 l1 l2 τ Q := sorry
set_option maxHeartbeats 2000000 in
theorem s_pMarked_137 {l1 l2 s0 : Int} {τ : TT} {Q : Int → TT → Prop} (hB : (-2147483648 ≤ s0 ∧ s0 < 2147483648) ∧ (∀ (c140 : s0 = 0), W_pMarked_150 l1 ((l2 + 0)) s0 τ Q) ∧ (∀ (c140 : ¬ s0 = 0), W_pMarked_150 l1 ((l2 + 2)) s0 τ Q)) : W_pMarked_137 l1 l2 s0 τ Q := sorry
set_option maxHeartbeats 2000000 in
theorem s_pMarked_150 {l1 l2 l3 : Int} {τ : TT} {Q : Int → TT → Prop} (hB : (0 ≤ l1 ∧ l1 < 2001) ∧ ∀ (r156 : -2147483648 ≤ τ.2 123 l1 ∧ τ.2 123 l1 < 2147483648), (-2147483648 ≤ l2 ∧ l2 < 2147483648) ∧ (∀ (c157 : (τ.2 123 l1) ≤ l2), W_pMarked_178 l1 l2 l3 τ Q) ∧ (∀ (c157 : l2 < (τ.2 123 l1)), (0 ≤ l2 ∧ l2 < 2000) ∧ ∀ (r165 : -128 ≤ τ.2 121 l2 ∧ τ.2 121 l2 < 128), w_pIsBlank (τ.2 121 l2) τ (fun x166 τ166 => ∀ (r166 : x166 = 0 ∨ x166 = 1), (∀ (c169 : x166 = 0), W_pMarked_178 l1 l2 l3 τ166 Q) ∧ (∀ (c169 : ¬ x166 = 0), W_pMarked_150 l1 ((l2 + 1)) l3 τ166 Q)))) : W_pMarked_150 l1 l2 l3 τ Q := sorry
set_option maxHeartbeats 2000000 in
theorem s_pMarked_178 {l1 l2 l3 : Int} {τ : TT} {Q : Int → TT → Prop} (hB : (0 ≤ l1 ∧ l1 < 2001) ∧ ∀ (r184 : -2147483648 ≤ τ.2 123 l1 ∧ τ.2 123 l1 < 2147483648), (-2147483648 ≤ l2 ∧ l2 < 2147483648) ∧ (∀ (c185 : (τ.2 123 l1) ≤ l2), (-2147483648 ≤ l3 ∧ l3 < 2147483648) ∧ (∀ (c193 : l3 = 0), Q 1 τ) ∧ (∀ (c193 : ¬ l3 = 0), Q 2 τ)) ∧ (∀ (c185 : l2 < (τ.2 123 l1)), Q 0 τ)) : W_pMarked_178 l1 l2 l3 τ Q := sorry
def w_pAdd (l1 l2 : Int) (τ : TT) (Q : TT → Prop) : Prop := Hid (TC yX11_pAdd cX11_pAdd 3 none 0 (rU Q) (fun o => [(2, o), (0, l1), (0, l2)]) τ)
set_option maxHeartbeats 2000000 in
theorem s_pAdd {l1 l2 : Int} {τ : TT} {Q : TT → Prop} (hB : ∀ (r5 : -2147483648 ≤ τ.1 201 ∧ τ.1 201 < 2147483648), (0 ≤ (τ.1 201) ∧ (τ.1 201) < 520) ∧ (-2147483648 ≤ l1 ∧ l1 < 2147483648) ∧ (-2147483648 ≤ l2 ∧ l2 < 2147483648) ∧ (-2147483648 ≤ ((τ.1 201) + 1) ∧ ((τ.1 201) + 1) < 2147483648) ∧ Q (((τ.a 135 (τ.1 201) l1).a 136 (τ.1 201) l2).s 201 ((τ.1 201) + 1))) : w_pAdd l1 l2 τ Q := sorry
def w_pFindParts (l1 : Int) (τ : TT) (Q : TT → Prop) : Prop := Hid (TC yX11_pFindParts cX11_pFindParts 6 none 2 (rU Q) (fun o => [(2, o), (0, l1)]) τ)
def W_pFindParts_17 (l1 l2 l3 l4 : Int) (τ : TT) (Q : TT → Prop) : Prop := Hid (TJ cX11_pFindParts 6 none 2 (rU Q) 17 (fun o => [(2, o), (0, l1), (0, l2), (0, l3), (0, l4), vN]) (fun o => []) τ)
def W_pFindParts_93 (l1 l2 : Int) (τ : TT) (Q : TT → Prop) : Prop := Hid (TJ cX11_pFindParts 6 none 2 (rU Q) 93 (fun o => [(2, o), (0, l1), (0, l2), vN, vN, vN]) (fun o => []) τ)
def W_pFindParts_55 (l1 l2 l3 l5 : Int) (τ : TT) (Q : TT → Prop) : Prop := Hid (TJ cX11_pFindParts 6 none 2 (rU Q) 55 (fun o => [(2, o), (0, l1), (0, l2), (0, l3), vN, (0, l5)]) (fun o => []) τ)
def W_pFindParts_74 (l1 l2 l3 l5 : Int) (τ : TT) (Q : TT → Prop) : Prop := Hid (TJ cX11_pFindParts 6 none 2 (rU Q) 74 (fun o => [(2, o), (0, l1), (0, l2), (0, l3), vN, (0, l5)]) (fun o => []) τ)
def W_pFindParts_73 (l1 l3 l5 s0 : Int) (τ : TT) (Q : TT → Prop) : Prop := Hid (TJ cX11_pFindParts 6 none 2 (rU Q) 73 (fun o => [(2, o), (0, l1), vN, (0, l3), vN, (0, l5)]) (fun o => [(0, s0)]) τ)
set_option maxHeartbeats 2000000 in
theorem s_pFindParts {l1 : Int} {τ : TT} {Q : TT → Prop} (hB : (0 ≤ l1 ∧ l1 < 60) ∧ ∀ (r12 : -2147483648 ≤ τ.2 127 l1 ∧ τ.2 127 l1 < 2147483648), W_pFindParts_17 l1 ((-1)) ((τ.2 127 l1)) 1 (τ.s 201 0) Q) : w_pFindParts l1 τ Q := sorry
set_option maxHeartbeats 2000000 in
theorem s_pFindParts_17 {l1 l2 l3 l4 : Int} {τ : TT} {Q : TT → Prop} (hB : (0 ≤ l1 ∧ l1 < 60) ∧ ∀ (r23 : -2147483648 ≤ τ.2 125 l1 ∧ τ.2 125 l1 < 2147483648), (-2147483648 ≤ l3 ∧ l3 < 2147483648) ∧ (∀ (c24 : (τ.2 125 l1) ≤ l3), W_pFindParts_93 l1 l2 τ Q) ∧ (∀ (c24 : l3 < (τ.2 125 l1)), (-2147483648 ≤ l4 ∧ l4 < 2147483648) ∧ (∀ (c29 : l4 = 0), W_pFindParts_93 l1 l2 τ Q) ∧ (∀ (c29 : ¬ l4 = 0), w_pMarked l3 τ (fun x34 τ34 => ∀ (r34 : -2147483648 ≤ x34 ∧ x34 < 2147483648), (∀ (c41 : x34 ≤ 0), W_pFindParts_55 l1 l2 l3 x34 τ34 Q) ∧ (∀ (c41 : 0 < x34), (-2147483648 ≤ l2 ∧ l2 < 2147483648) ∧ (∀ (c46 : l2 = (-1)), W_pFindParts_55 l1 l2 l3 x34 τ34 Q) ∧ (∀ (c46 : ¬ l2 = (-1)), w_pAdd l2 l3 τ34 (fun τ52 => W_pFindParts_55 l1 l2 l3 x34 τ52 Q))))))) : W_pFindParts_17 l1 l2 l3 l4 τ Q := sorry
set_option maxHeartbeats 2000000 in
theorem s_pFindParts_93 {l1 l2 : Int} {τ : TT} {Q : TT → Prop} (hB : (-2147483648 ≤ l2 ∧ l2 < 2147483648) ∧ (∀ (c95 : l2 = (-1)), Q τ) ∧ (∀ (c95 : ¬ l2 = (-1)), (0 ≤ l1 ∧ l1 < 60) ∧ ∀ (r105 : -2147483648 ≤ τ.2 125 l1 ∧ τ.2 125 l1 < 2147483648), w_pAdd l2 (τ.2 125 l1) τ (fun τ106 => Q τ106))) : W_pFindParts_93 l1 l2 τ Q := sorry
set_option maxHeartbeats 2000000 in
theorem s_pFindParts_55 {l1 l2 l3 l5 : Int} {τ : TT} {Q : TT → Prop} (hB : (-2147483648 ≤ l5 ∧ l5 < 2147483648) ∧ (∀ (c57 : l5 ≤ 0), W_pFindParts_74 l1 l2 l3 l5 τ Q) ∧ (∀ (c57 : 0 < l5), (∀ (c63 : ¬ l5 = 1), W_pFindParts_73 l1 l3 l5 ((-1)) τ Q) ∧ (∀ (c63 : l5 = 1), W_pFindParts_73 l1 l3 l5 ((l3 + 1)) τ Q))) : W_pFindParts_55 l1 l2 l3 l5 τ Q := sorry
set_option maxHeartbeats 2000000 in
theorem s_pFindParts_74 {l1 l2 l3 l5 : Int} {τ : TT} {Q : TT → Prop} (hB : (-2147483648 ≤ l5 ∧ l5 < 2147483648) ∧ (∀ (c77 : l5 = 2), W_pFindParts_17 l1 l2 ((l3 + 1)) 0 τ Q) ∧ (∀ (c77 : ¬ l5 = 2), W_pFindParts_17 l1 l2 ((l3 + 1)) 1 τ Q)) : W_pFindParts_74 l1 l2 l3 l5 τ Q := sorry
set_option maxHeartbeats 2000000 in
theorem s_pFindParts_73 {l1 l3 l5 s0 : Int} {τ : TT} {Q : TT → Prop} (hB : W_pFindParts_74 l1 s0 l3 l5 τ Q) : W_pFindParts_73 l1 l3 l5 s0 τ Q := sorry
def w_pIsEnclosed (l1 : Int) (τ : TT) (Q : Int → TT → Prop) : Prop := Hid (TC yX11_pIsEnclosed cX11_pIsEnclosed 2 (some .boolean) 6 (rZ Q) (fun o => [(2, o), (0, l1)]) τ)
set_option maxHeartbeats 2000000 in
theorem s_pIsEnclosed {l1 : Int} {τ : TT} {Q : Int → TT → Prop} (hB : w_pType l1 τ (fun τ2 => w_pIsGot 116 τ2 (fun x10 τ10 => ∀ (r10 : x10 = 0 ∨ x10 = 1), (∀ (c13 : ¬ x10 = 0), w_pFirstItem l1 105 τ10 (fun τ24 => ∀ (r28 : -2147483648 ≤ τ24.1 212 ∧ τ24.1 212 < 2147483648), (∀ (c31 : (τ24.1 212) = 0), Q 1 τ24) ∧ (∀ (c31 : ¬ (τ24.1 212) = 0), w_pIsGot 118 τ24 (fun x39 τ39 => ∀ (r39 : x39 = 0 ∨ x39 = 1), (∀ (c42 : ¬ x39 = 0), Q 1 τ39) ∧ (∀ (c42 : x39 = 0), w_pIsGot 119 τ39 (fun x50 τ50 => ∀ (r50 : x50 = 0 ∨ x50 = 1), (∀ (c53 : ¬ x50 = 0), Q 1 τ50) ∧ (∀ (c53 : x50 = 0), w_pIsGot 120 τ50 (fun x61 τ61 => ∀ (r61 : x61 = 0 ∨ x61 = 1), (∀ (c64 : x61 = 0), Q 0 τ61) ∧ (∀ (c64 : ¬ x61 = 0), Q 1 τ61))))))))) ∧ (∀ (c13 : x10 = 0), Q 0 τ10)))) : w_pIsEnclosed l1 τ Q := sorry
def w_pLook (l1 : Int) (τ : TT) (Q : TT → Prop) : Prop := Hid (TC yX11_pLook cX11_pLook 3 none 7 (rU Q) (fun o => [(2, o), (0, l1)]) τ)
def W_pLook_51 (l1 l2 : Int) (τ : TT) (Q : TT → Prop) : Prop := Hid (TJ cX11_pLook 3 none 7 (rU Q) 51 (fun o => [(2, o), (0, l1), (0, l2)]) (fun o => []) τ)
set_option maxHeartbeats 2000000 in
theorem s_pLook {l1 : Int} {τ : TT} {Q : TT → Prop} (hB : w_pFindHead l1 τ (fun τ2 => (0 ≤ l1 ∧ l1 < 60) ∧ ∀ (r17 : -2147483648 ≤ τ2.2 129 l1 ∧ τ2.2 129 l1 < 2147483648), (∀ (c20 : (τ2.2 129 l1) < 8), w_pIsMulti l1 (τ2.a 130 l1 0) (fun x26 τ26 => ∀ (r26 : x26 = 0 ∨ x26 = 1), (∀ (c29 : x26 = 0), w_pIsEnclosed l1 τ26 (fun x83 τ83 => ∀ (r83 : x83 = 0 ∨ x83 = 1), (∀ (c86 : x83 = 0), Q τ83) ∧ (∀ (c86 : ¬ x83 = 0), ∀ (r102 : -2147483648 ≤ τ83.2 127 l1 ∧ τ83.2 127 l1 < 2147483648), ∀ (r108 : -2147483648 ≤ τ83.2 125 l1 ∧ τ83.2 125 l1 < 2147483648), w_pPush (τ83.2 127 l1) (τ83.2 125 l1) l1 (τ83.a 130 l1 2) (fun τ110 => Q τ110)))) ∧ (∀ (c29 : ¬ x26 = 0), w_pFindParts l1 (τ26.a 130 l1 1) (fun τ41 => ∀ (r45 : -2147483648 ≤ τ41.1 201 ∧ τ41.1 201 < 2147483648), W_pLook_51 l1 (((τ41.1 201) - 1)) τ41 Q)))) ∧ (∀ (c20 : 8 ≤ (τ2.2 129 l1)), Q (τ2.a 130 l1 0)))) : w_pLook l1 τ Q := sorry
set_option maxHeartbeats 2000000 in
theorem s_pLook_51 {l1 l2 : Int} {τ : TT} {Q : TT → Prop} (hB : (-2147483648 ≤ l2 ∧ l2 < 2147483648) ∧ (∀ (c52 : l2 < 0), Q τ) ∧ (∀ (c52 : 0 ≤ l2), (0 ≤ l2 ∧ l2 < 520) ∧ ∀ (r61 : -2147483648 ≤ τ.2 135 l2 ∧ τ.2 135 l2 < 2147483648), ∀ (r67 : -2147483648 ≤ τ.2 136 l2 ∧ τ.2 136 l2 < 2147483648), w_pPush (τ.2 135 l2) (τ.2 136 l2) l1 τ (fun τ69 => W_pLook_51 l1 ((l2 + (-1))) τ69 Q))) : W_pLook_51 l1 l2 τ Q := sorry
def w_pBuild (τ : TT) (Q : TT → Prop) : Prop := Hid (TC yX11_pBuild cX11_pBuild 2 none 8 (rU Q) (fun o => [(2, o)]) τ)
def W_pBuild_25 (τ : TT) (Q : TT → Prop) : Prop := Hid (TJ cX11_pBuild 2 none 8 (rU Q) 25 (fun o => [(2, o), vN]) (fun o => []) τ)
def W_pBuild_156 (l1 s0 s1 : Int) (τ : TT) (Q : TT → Prop) : Prop := Hid (TJ cX11_pBuild 2 none 8 (rU Q) 156 (fun o => [(2, o), (0, l1)]) (fun o => [(0, s0), (0, s1), (2, o + 129)]) τ)
set_option maxHeartbeats 2000000 in
theorem s_pBuild {τ : TT} {Q : TT → Prop} (hB : ∀ (r18 : -2147483648 ≤ τ.1 182 ∧ τ.1 182 < 2147483648), w_pPush 0 (τ.1 182) (-1) (((τ.s 185 0).s 186 0).s 197 0) (fun τ22 => W_pBuild_25  τ22 Q)) : w_pBuild  τ Q := sorry
set_option maxHeartbeats 2000000 in
theorem s_pBuild_25 {τ : TT} {Q : TT → Prop} (hB : ∀ (r26 : -2147483648 ≤ τ.1 197 ∧ τ.1 197 < 2147483648), (∀ (c29 : (τ.1 197) ≤ 0), Q τ) ∧ (∀ (c29 : 0 < (τ.1 197)), (-2147483648 ≤ ((τ.1 197) - 1) ∧ ((τ.1 197) - 1) < 2147483648) ∧ ∀ (r43 : -2147483648 ≤ τ.1 185 ∧ τ.1 185 < 2147483648), (∀ (c48 : ¬ (τ.1 185) = 60), (-2147483648 ≤ ((τ.1 185) + 1) ∧ ((τ.1 185) + 1) < 2147483648) ∧ (0 ≤ ((τ.1 197) - 1) ∧ ((τ.1 197) - 1) < 520) ∧ ∀ (r92 : -2147483648 ≤ τ.2 132 ((τ.1 197) - 1) ∧ τ.2 132 ((τ.1 197) - 1) < 2147483648), (0 ≤ (τ.1 185) ∧ (τ.1 185) < 60) ∧ ∀ (r107 : -2147483648 ≤ τ.2 133 ((τ.1 197) - 1) ∧ τ.2 133 ((τ.1 197) - 1) < 2147483648), ∀ (r122 : -2147483648 ≤ τ.2 134 ((τ.1 197) - 1) ∧ τ.2 134 ((τ.1 197) - 1) < 2147483648), ∀ (r134 : -2147483648 ≤ up (τ.2 128) (τ.1 185) (τ.2 134 ((τ.1 197) - 1)) (τ.1 185) ∧ up (τ.2 128) (τ.1 185) (τ.2 134 ((τ.1 197) - 1)) (τ.1 185) < 2147483648), (∀ (c136 : ¬ (up (τ.2 128) (τ.1 185) (τ.2 134 ((τ.1 197) - 1)) (τ.1 185)) = (-1)), ∀ (r152 : -2147483648 ≤ up (τ.2 128) (τ.1 185) (τ.2 134 ((τ.1 197) - 1)) (τ.1 185) ∧ up (τ.2 128) (τ.1 185) (τ.2 134 ((τ.1 197) - 1)) (τ.1 185) < 2147483648), (0 ≤ (up (τ.2 128) (τ.1 185) (τ.2 134 ((τ.1 197) - 1)) (τ.1 185)) ∧ (up (τ.2 128) (τ.1 185) (τ.2 134 ((τ.1 197) - 1)) (τ.1 185)) < 60) ∧ ∀ (r153 : -2147483648 ≤ τ.2 129 (up (τ.2 128) (τ.1 185) (τ.2 134 ((τ.1 197) - 1)) (τ.1 185)) ∧ τ.2 129 (up (τ.2 128) (τ.1 185) (τ.2 134 ((τ.1 197) - 1)) (τ.1 185)) < 2147483648), W_pBuild_156 ((τ.1 185)) (((τ.2 129 (up (τ.2 128) (τ.1 185) (τ.2 134 ((τ.1 197) - 1)) (τ.1 185))) + 1)) ((τ.1 185)) (((((τ.s 197 ((τ.1 197) - 1)).s 185 ((τ.1 185) + 1)).a 124 (τ.1 185) (τ.2 132 ((τ.1 197) - 1))).a 125 (τ.1 185) (τ.2 133 ((τ.1 197) - 1))).a 128 (τ.1 185) (τ.2 134 ((τ.1 197) - 1))) Q) ∧ (∀ (c136 : (up (τ.2 128) (τ.1 185) (τ.2 134 ((τ.1 197) - 1)) (τ.1 185)) = (-1)), W_pBuild_156 ((τ.1 185)) 0 ((τ.1 185)) (((((τ.s 197 ((τ.1 197) - 1)).s 185 ((τ.1 185) + 1)).a 124 (τ.1 185) (τ.2 132 ((τ.1 197) - 1))).a 125 (τ.1 185) (τ.2 133 ((τ.1 197) - 1))).a 128 (τ.1 185) (τ.2 134 ((τ.1 197) - 1))) Q)) ∧ (∀ (c48 : (τ.1 185) = 60), ∀ (r53 : -2147483648 ≤ τ.1 186 ∧ τ.1 186 < 2147483648), (-2147483648 ≤ ((τ.1 186) + 1) ∧ ((τ.1 186) + 1) < 2147483648) ∧ W_pBuild_25  ((τ.s 197 ((τ.1 197) - 1)).s 186 ((τ.1 186) + 1)) Q))) : W_pBuild_25  τ Q := sorry
set_option maxHeartbeats 2000000 in
theorem s_pBuild_156 {l1 s0 s1 : Int} {τ : TT} {Q : TT → Prop} (hB : (0 ≤ s1 ∧ s1 < 60) ∧ (-2147483648 ≤ s0 ∧ s0 < 2147483648) ∧ w_pLook l1 (τ.a 129 s1 s0) (fun τ159 => W_pBuild_25  τ159 Q)) : W_pBuild_156 l1 s0 s1 τ Q := sorry
def w_pIsHung (l1 : Int) (τ : TT) (Q : Int → TT → Prop) : Prop := Hid (TC yX11_pIsHung cX11_pIsHung 2 (some .boolean) 5 (rZ Q) (fun o => [(2, o), (0, l1)]) τ)
set_option maxHeartbeats 2000000 in
theorem s_pIsHung {l1 : Int} {τ : TT} {Q : Int → TT → Prop} (hB : w_pFirstItem l1 106 τ (fun τ6 => w_pIsGot 117 τ6 (fun x14 τ14 => ∀ (r14 : x14 = 0 ∨ x14 = 1), Q x14 τ14))) : w_pIsHung l1 τ Q := sorry
def w_pAlternative (l1 : Int) (τ : TT) (Q : Int → TT → Prop) : Prop := Hid (TC yX11_pAlternative cX11_pAlternative 7 (some .long) 0 (rL Q) (fun o => [(2, o), (0, l1)]) τ)
def W_pAlternative_10 (l1 l2 l4 l6 : Int) (τ : TT) (Q : Int → TT → Prop) : Prop := Hid (TJ cX11_pAlternative 7 (some .long) 0 (rL Q) 10 (fun o => [(2, o), (0, l1), (1, l2), vN, (1, l4), vN, (0, l6)]) (fun o => []) τ)
set_option maxHeartbeats 2000000 in
theorem s_pAlternative {l1 : Int} {τ : TT} {Q : Int → TT → Prop} (hB : W_pAlternative_10 l1 0 0 ((l1 + 1)) τ Q) : w_pAlternative l1 τ Q := sorry
set_option maxHeartbeats 2000000 in
theorem s_pAlternative_10 {l1 l2 l4 l6 : Int} {τ : TT} {Q : Int → TT → Prop} (hB : ∀ (r13 : -2147483648 ≤ τ.1 185 ∧ τ.1 185 < 2147483648), (-2147483648 ≤ l6 ∧ l6 < 2147483648) ∧ (∀ (c16 : (τ.1 185) ≤ l6), (-9223372036854775808 ≤ l4 ∧ l4 < 9223372036854775808) ∧ (∀ (c89 : l4 = 0), (-9223372036854775808 ≤ l2 ∧ l2 < 9223372036854775808) ∧ Q l2 τ) ∧ (∀ (c89 : ¬ l4 = 0), Q l4 τ)) ∧ (∀ (c16 : l6 < (τ.1 185)), (0 ≤ l6 ∧ l6 < 60) ∧ ∀ (r25 : -2147483648 ≤ τ.2 128 l6 ∧ τ.2 128 l6 < 2147483648), (-2147483648 ≤ l1 ∧ l1 < 2147483648) ∧ (∀ (c27 : ¬ (τ.2 128 l6) = l1), W_pAlternative_10 l1 l2 l4 ((l6 + 1)) τ Q) ∧ (∀ (c27 : (τ.2 128 l6) = l1), ∀ (r36 : -9223372036854775808 ≤ τ.2 131 l6 ∧ τ.2 131 l6 < 9223372036854775808), (∀ (c39 : ¬ (τ.2 131 l6) = 0), ∀ (r51 : -9223372036854775808 ≤ τ.2 131 l6 ∧ τ.2 131 l6 < 9223372036854775808), ∀ (r59 : -9223372036854775808 ≤ τ.2 131 l6 ∧ τ.2 131 l6 < 9223372036854775808), ∀ (r61 : -9223372036854775808 ≤ τ.1 196 ∧ τ.1 196 < 9223372036854775808), (∀ (c67 : ¬ (andL (τ.2 131 l6) (τ.1 196)) = 0), W_pAlternative_10 l1 ((τ.2 131 l6)) l4 ((l6 + 1)) τ Q) ∧ (∀ (c67 : (andL (τ.2 131 l6) (τ.1 196)) = 0), ∀ (r76 : -9223372036854775808 ≤ τ.2 131 l6 ∧ τ.2 131 l6 < 9223372036854775808), W_pAlternative_10 l1 ((τ.2 131 l6)) ((τ.2 131 l6)) ((l6 + 1)) τ Q)) ∧ (∀ (c39 : (τ.2 131 l6) = 0), W_pAlternative_10 l1 l2 l4 ((l6 + 1)) τ Q)))) : W_pAlternative_10 l1 l2 l4 l6 τ Q := sorry
/-! 95.g02.lean.txt -/

set_option maxRecDepth 100000
theorem lf_X11_913_25 : FLk RX11 913 25 195 .long false := sorry
theorem lf_X11_418_25 : FLk RX11 418 25 170 (.array .int) true := sorry
theorem lf_X11_421_25 : FLk RX11 421 25 171 (.array .int) true := sorry
theorem lf_X11_430_25 : FLk RX11 430 25 174 (.array .int) true := sorry
theorem lm_X11_1812 : VLk RX11 1812 25 yX11_pIsHung cX11_pIsHung 2 (some .boolean) 1 := sorry
theorem lm_X11_1815 : VLk RX11 1815 25 yX11_pAlternative cX11_pAlternative 7 (some .long) 1 := sorry
theorem lf_X11_262_25 : FLk RX11 262 25 118 (.array .int) true := sorry
theorem lf_X11_265_25 : FLk RX11 265 25 119 (.array .int) true := sorry
theorem lf_X11_268_25 : FLk RX11 268 25 120 (.array .int) true := sorry
theorem lf_X11_271_25 : FLk RX11 271 25 122 (.array .int) true := sorry
theorem lf_X11_1411_25 : FLk RX11 1411 25 121 .int false := sorry
theorem lf_X11_274_25 : FLk RX11 274 25 123 (.array .int) true := sorry
theorem lf_X11_277_25 : FLk RX11 277 25 124 (.array .int) true := sorry
theorem lf_X11_1414_25 : FLk RX11 1414 25 127 .int false := sorry
theorem lf_X11_283_25 : FLk RX11 283 25 126 (.array .int) true := sorry
theorem lf_X11_280_25 : FLk RX11 280 25 125 (.array .int) true := sorry
theorem lm_X11_1417 : VLk RX11 1417 25 yX11_hBeginWord cX11_hBeginWord 3 none 2 := sorry
theorem lf_X11_1405_25 : FLk RX11 1405 25 136 .int false := sorry
theorem lf_X11_1408_25 : FLk RX11 1408 25 137 .int false := sorry
theorem lm_X11_1420 : VLk RX11 1420 25 yX11_hPut cX11_hPut 2 none 1 := sorry
theorem lm_X11_1423 : VLk RX11 1423 25 yX11_hEndWord cX11_hEndWord 1 none 0 := sorry
theorem lf_X11_1426_25 : FLk RX11 1426 25 138 .boolean false := sorry
theorem lm_X11_1441 : VLk RX11 1441 25 yX11_hLook cX11_hLook 1 (some .int) 0 := sorry
theorem lm_X11_1429 : SLk RX11 1429 yX11_hIsNothing cX11_hIsNothing 1 (some .boolean) 1 := sorry
theorem lm_X11_1435 : VLk RX11 1435 25 yX11_hIsSign cX11_hIsSign 2 (some .boolean) 1 := sorry
theorem lm_X11_1438 : VLk RX11 1438 25 yX11_hTakeAtom cX11_hTakeAtom 2 none 0 := sorry
theorem lm_X11_1432 : VLk RX11 1432 25 yX11_hTakeEnclosed cX11_hTakeEnclosed 5 none 2 := sorry
theorem lf_X11_289_25 : FLk RX11 289 25 129 (.array .int) true := sorry
theorem lf_X11_292_25 : FLk RX11 292 25 130 (.array .int) true := sorry
theorem lm_X11_1453 : VLk RX11 1453 25 yX11_hNext cX11_hNext 4 (some .int) 2 := sorry
theorem lm_X11_1456 : VLk RX11 1456 25 yX11_hIs cX11_hIs 3 (some .boolean) 2 := sorry
theorem lm_X11_1444 : SLk RX11 1444 yX11_hAreaOf cX11_hAreaOf 1 (some .int) 1 := sorry
theorem lf_X11_295_25 : FLk RX11 295 25 131 (.array .int) true := sorry
theorem lm_X11_1447 : VLk RX11 1447 25 yX11_hRoomAt cX11_hRoomAt 2 (some .int) 1 := sorry
theorem lf_X11_298_25 : FLk RX11 298 25 132 (.array .int) true := sorry
theorem lf_X11_286_25 : FLk RX11 286 25 128 (.array .int) true := sorry
theorem lm_X11_1450 : VLk RX11 1450 25 yX11_hAdd cX11_hAdd 3 none 2 := sorry
theorem lm_X11_1459 : VLk RX11 1459 25 yX11_hBeginPart cX11_hBeginPart 3 none 1 := sorry
theorem lm_X11_1465 : VLk RX11 1465 25 yX11_hEndPart cX11_hEndPart 2 none 1 := sorry
theorem lm_X11_1462 : VLk RX11 1462 25 yX11_hAddWord cX11_hAddWord 4 none 2 := sorry
theorem lm_X11_1487 : VLk RX11 1487 25 yX11_hIsName cX11_hIsName 5 (some .boolean) 2 := sorry
theorem lf_X11_1481_25 : FLk RX11 1481 25 134 .int false := sorry
theorem lm_X11_1493 : VLk RX11 1493 25 yX11_hMakeName cX11_hMakeName 6 none 3 := sorry
theorem lf_X11_1502_25 : FLk RX11 1502 25 133 .int false := sorry
theorem lm_X11_1468 : VLk RX11 1468 25 yX11_hIsRowWord cX11_hIsRowWord 4 (some .boolean) 3 := sorry
theorem lm_X11_1471 : VLk RX11 1471 25 yX11_hRowEnd cX11_hRowEnd 8 (some .int) 3 := sorry
theorem lf_X11_1475_25 : FLk RX11 1475 25 139 .int false := sorry
theorem lf_X11_1478_25 : FLk RX11 1478 25 140 .int false := sorry
theorem lm_X11_1490 : VLk RX11 1490 25 yX11_hIsSpec cX11_hIsSpec 6 (some .boolean) 2 := sorry
theorem lm_X11_1484 : VLk RX11 1484 25 yX11_hBehindRoute cX11_hBehindRoute 4 (some .int) 2 := sorry
theorem lm_X11_1496 : VLk RX11 1496 25 yX11_hMakeComment cX11_hMakeComment 5 none 2 := sorry
theorem lf_X11_301_25 : FLk RX11 301 25 135 (.array .int) true := sorry
theorem lm_X11_1499 : VLk RX11 1499 25 yX11_hMakeWords cX11_hMakeWords 5 none 3 := sorry
theorem lm_X11_1505 : VLk RX11 1505 25 yX11_hCut cX11_hCut 4 none 2 := sorry
theorem lm_X11_1508 : VLk RX11 1508 25 yX11_hForget cX11_hForget 5 none 3 := sorry
theorem lm_X11_1511 : VLk RX11 1511 25 yX11_hBeginGroup cX11_hBeginGroup 4 none 2 := sorry
theorem lm_X11_1514 : VLk RX11 1514 25 yX11_hTakeMailbox cX11_hTakeMailbox 11 none 4 := sorry
theorem lm_X11_933 : VLk RX11 933 25 yX11_seek cX11_seek 3 (some .boolean) 2 := sorry
theorem lm_X11_937 : VLk RX11 937 25 yX11_takeValue cX11_takeValue 2 none 0 := sorry
theorem lm_X11_940 : VLk RX11 940 25 yX11_hAddresses cX11_hAddresses 9 (some .int) 1 := sorry
theorem lf_X11_943_25 : FLk RX11 943 25 148 .int false := sorry
theorem lf_X11_385_25 : FLk RX11 385 25 147 (.array .byte) true := sorry
def w_pFindTexts (τ : TT) (Q : TT → Prop) : Prop := Hid (TC yX11_pFindTexts cX11_pFindTexts 5 none 6 (rU Q) (fun o => [(2, o)]) τ)
def W_pFindTexts_12 (l1 : Int) (τ : TT) (Q : TT → Prop) : Prop := Hid (TJ cX11_pFindTexts 5 none 6 (rU Q) 12 (fun o => [(2, o), (0, l1), vN, vN, vN]) (fun o => []) τ)
def W_pFindTexts_51 (l1 : Int) (τ : TT) (Q : TT → Prop) : Prop := Hid (TJ cX11_pFindTexts 5 none 6 (rU Q) 51 (fun o => [(2, o), (0, l1), vN, vN, vN]) (fun o => []) τ)
def W_pFindTexts_99 (l1 l3 : Int) (τ : TT) (Q : TT → Prop) : Prop := Hid (TJ cX11_pFindTexts 5 none 6 (rU Q) 99 (fun o => [(2, o), (0, l1), vN, (0, l3), vN]) (fun o => []) τ)
def W_pFindTexts_104 (l1 l3 l4 : Int) (τ : TT) (Q : TT → Prop) : Prop := Hid (TJ cX11_pFindTexts 5 none 6 (rU Q) 104 (fun o => [(2, o), (0, l1), vN, (0, l3), (0, l4)]) (fun o => []) τ)
set_option maxHeartbeats 2000000 in
theorem s_pFindTexts {τ : TT} {Q : TT → Prop} (hB : ∀ (r6 : -2147483648 ≤ τ.1 185 ∧ τ.1 185 < 2147483648), W_pFindTexts_12 (((τ.1 185) - 1)) (τ.s 196 0) Q) : w_pFindTexts  τ Q := sorry
set_option maxHeartbeats 2000000 in
theorem s_pFindTexts_12 {l1 : Int} {τ : TT} {Q : TT → Prop} (hB : (-2147483648 ≤ l1 ∧ l1 < 2147483648) ∧ (∀ (c13 : l1 < 0), ∀ (r179 : -2147483648 ≤ τ.1 185 ∧ τ.1 185 < 2147483648), (∀ (c182 : ¬ (τ.1 185) = 0), ∀ (r194 : -9223372036854775808 ≤ τ.2 131 0 ∧ τ.2 131 0 < 9223372036854775808), Q (τ.s 195 (τ.2 131 0))) ∧ (∀ (c182 : (τ.1 185) = 0), Q (τ.s 195 0))) ∧ (∀ (c13 : 0 ≤ l1), (0 ≤ l1 ∧ l1 < 60) ∧ w_pType l1 (τ.a 131 l1 0) (fun τ25 => w_pIsGot 111 τ25 (fun x33 τ33 => ∀ (r33 : x33 = 0 ∨ x33 = 1), (∀ (c36 : x33 = 0), W_pFindTexts_51 l1 τ33 Q) ∧ (∀ (c36 : ¬ x33 = 0), ∀ (r41 : -9223372036854775808 ≤ τ33.1 196 ∧ τ33.1 196 < 9223372036854775808), W_pFindTexts_51 l1 (τ33.s 196 (orL (τ33.1 196) (shlL 1 l1))) Q))))) : W_pFindTexts_12 l1 τ Q := sorry
set_option maxHeartbeats 2000000 in
theorem s_pFindTexts_51 {l1 : Int} {τ : TT} {Q : TT → Prop} (hB : w_pBegins 112 τ (fun x56 τ56 => ∀ (r56 : x56 = 0 ∨ x56 = 1), w_pIsGot 115 τ56 (fun x65 τ65 => ∀ (r65 : x65 = 0 ∨ x65 = 1), (0 ≤ l1 ∧ l1 < 60) ∧ ∀ (r74 : -2147483648 ≤ τ65.2 130 l1 ∧ τ65.2 130 l1 < 2147483648), (∀ (c75 : ¬ (τ65.2 130 l1) = 0), W_pFindTexts_99 l1 x65 τ65 Q) ∧ (∀ (c75 : (τ65.2 130 l1) = 0), (∀ (c79 : x56 = 0), W_pFindTexts_99 l1 x65 τ65 Q) ∧ (∀ (c79 : ¬ x56 = 0), w_pIsHung l1 τ65 (fun x84 τ84 => ∀ (r84 : x84 = 0 ∨ x84 = 1), (∀ (c87 : ¬ x84 = 0), W_pFindTexts_99 l1 x65 τ84 Q) ∧ (∀ (c87 : x84 = 0), W_pFindTexts_99 l1 x65 (τ84.a 131 l1 (shlL 1 l1)) Q))))))) : W_pFindTexts_51 l1 τ Q := sorry
set_option maxHeartbeats 2000000 in
theorem s_pFindTexts_99 {l1 l3 : Int} {τ : TT} {Q : TT → Prop} (hB : W_pFindTexts_104 l1 l3 ((l1 + 1)) τ Q) : W_pFindTexts_99 l1 l3 τ Q := sorry
set_option maxHeartbeats 2000000 in
theorem s_pFindTexts_104 {l1 l3 l4 : Int} {τ : TT} {Q : TT → Prop} (hB : ∀ (r107 : -2147483648 ≤ τ.1 185 ∧ τ.1 185 < 2147483648), (-2147483648 ≤ l4 ∧ l4 < 2147483648) ∧ (∀ (c110 : (τ.1 185) ≤ l4), (0 ≤ l1 ∧ l1 < 60) ∧ ∀ (r151 : -2147483648 ≤ τ.2 130 l1 ∧ τ.2 130 l1 < 2147483648), (∀ (c153 : ¬ (τ.2 130 l1) = 1), W_pFindTexts_12 ((l1 + (-1))) τ Q) ∧ (∀ (c153 : (τ.2 130 l1) = 1), (-2147483648 ≤ l3 ∧ l3 < 2147483648) ∧ (∀ (c157 : l3 = 0), W_pFindTexts_12 ((l1 + (-1))) τ Q) ∧ (∀ (c157 : ¬ l3 = 0), w_pAlternative l1 τ (fun x167 τ167 => ∀ (r167 : -9223372036854775808 ≤ x167 ∧ x167 < 9223372036854775808), W_pFindTexts_12 ((l1 + (-1))) (τ167.a 131 l1 x167) Q)))) ∧ (∀ (c110 : l4 < (τ.1 185)), (0 ≤ l4 ∧ l4 < 60) ∧ ∀ (r119 : -2147483648 ≤ τ.2 128 l4 ∧ τ.2 128 l4 < 2147483648), (-2147483648 ≤ l1 ∧ l1 < 2147483648) ∧ (∀ (c121 : ¬ (τ.2 128 l4) = l1), W_pFindTexts_104 l1 l3 ((l4 + 1)) τ Q) ∧ (∀ (c121 : (τ.2 128 l4) = l1), (0 ≤ l1 ∧ l1 < 60) ∧ ∀ (r130 : -9223372036854775808 ≤ τ.2 131 l1 ∧ τ.2 131 l1 < 9223372036854775808), ∀ (r137 : -9223372036854775808 ≤ τ.2 131 l4 ∧ τ.2 131 l4 < 9223372036854775808), W_pFindTexts_104 l1 l3 ((l4 + 1)) (τ.a 131 l1 (orL (τ.2 131 l1) (τ.2 131 l4))) Q))) : W_pFindTexts_104 l1 l3 l4 τ Q := sorry
def w_seek (l1 l2 : Int) (τ : TT) (Q : Int → TT → Prop) : Prop := Hid (TC yX11_seek cX11_seek 3 (some .boolean) 4 (rZ Q) (fun o => [(2, o), (0, l1), (2, o + l2)]) τ)
set_option maxHeartbeats 2000000 in
theorem s_seek {l1 l2 : Int} {τ : TT} {Q : Int → TT → Prop} (hB : (ttg l2 = 104) ∧ w_pFind l1 l2 (tlen l2) τ (fun x5 τ5 => ∀ (r5 : x5 = 0 ∨ x5 = 1), Q x5 τ5)) : w_seek l1 l2 τ Q := sorry
def w_takeValue (τ : TT) (Q : TT → Prop) : Prop := Hid (TC yX11_takeValue cX11_takeValue 2 none 0 (rU Q) (fun o => [(2, o)]) τ)
def W_takeValue_2 (l1 : Int) (τ : TT) (Q : TT → Prop) : Prop := Hid (TJ cX11_takeValue 2 none 0 (rU Q) 2 (fun o => [(2, o), (0, l1)]) (fun o => []) τ)
set_option maxHeartbeats 2000000 in
theorem s_takeValue {τ : TT} {Q : TT → Prop} (hB : W_takeValue_2 0 τ Q) : w_takeValue  τ Q := sorry
set_option maxHeartbeats 2000000 in
theorem s_takeValue_2 {l1 : Int} {τ : TT} {Q : TT → Prop} (hB : ∀ (r4 : -2147483648 ≤ τ.1 205 ∧ τ.1 205 < 2147483648), (-2147483648 ≤ l1 ∧ l1 < 2147483648) ∧ (∀ (c7 : (τ.1 205) ≤ l1), Q ((τ.a 81 0 0).a 82 0 (τ.1 205))) ∧ (∀ (c7 : l1 < (τ.1 205)), (0 ≤ l1 ∧ l1 < 2000) ∧ ∀ (r20 : -128 ≤ τ.2 137 l1 ∧ τ.2 137 l1 < 128), (0 ≤ l1 ∧ l1 < 2100) ∧ W_takeValue_2 ((l1 + 1)) (τ.a 83 l1 ((τ.2 137 l1) % 256)) Q)) : W_takeValue_2 l1 τ Q := sorry
def w_hIsNothing (l0 : Int) (τ : TT) (Q : Int → TT → Prop) : Prop := Hid (TC yX11_hIsNothing cX11_hIsNothing 1 (some .boolean) 0 (rZ Q) (fun o => [(0, l0)]) τ)
set_option maxHeartbeats 2000000 in
theorem s_hIsNothing {l0 : Int} {τ : TT} {Q : Int → TT → Prop} (hB : (-2147483648 ≤ l0 ∧ l0 < 2147483648) ∧ (∀ (c3 : l0 ≤ 32), Q 1 τ) ∧ (∀ (c3 : 32 < l0), (∀ (c9 : ¬ l0 = 127), Q 0 τ) ∧ (∀ (c9 : l0 = 127), Q 1 τ))) : w_hIsNothing l0 τ Q := sorry
def w_hBeginWord (l1 l2 : Int) (τ : TT) (Q : TT → Prop) : Prop := Hid (TC yX11_hBeginWord cX11_hBeginWord 3 none 0 (rU Q) (fun o => [(2, o), (0, l1), (0, l2)]) τ)
set_option maxHeartbeats 2000000 in
theorem s_hBeginWord {l1 l2 : Int} {τ : TT} {Q : TT → Prop} (hB : ∀ (r5 : -2147483648 ≤ τ.1 121 ∧ τ.1 121 < 2147483648), (0 ≤ (τ.1 121) ∧ (τ.1 121) < 2001) ∧ (-2147483648 ≤ l1 ∧ l1 < 2147483648) ∧ (-2147483648 ≤ l2 ∧ l2 < 2147483648) ∧ ∀ (r29 : -2147483648 ≤ τ.1 127 ∧ τ.1 127 < 2147483648), Q (((τ.a 84 (τ.1 121) l1).a 85 (τ.1 121) l2).a 86 (τ.1 121) (τ.1 127))) : w_hBeginWord l1 l2 τ Q := sorry
def w_hPut (l1 : Int) (τ : TT) (Q : TT → Prop) : Prop := Hid (TC yX11_hPut cX11_hPut 2 none 0 (rU Q) (fun o => [(2, o), (0, l1)]) τ)
set_option maxHeartbeats 2000000 in
theorem s_hPut {l1 : Int} {τ : TT} {Q : TT → Prop} (hB : ∀ (r5 : -2147483648 ≤ τ.1 127 ∧ τ.1 127 < 2147483648), (0 ≤ (τ.1 127) ∧ (τ.1 127) < 2100) ∧ (-2147483648 ≤ l1 ∧ l1 < 2147483648) ∧ (-2147483648 ≤ ((τ.1 127) + 1) ∧ ((τ.1 127) + 1) < 2147483648) ∧ Q ((τ.a 88 (τ.1 127) l1).s 127 ((τ.1 127) + 1))) : w_hPut l1 τ Q := sorry
def w_hEndWord (τ : TT) (Q : TT → Prop) : Prop := Hid (TC yX11_hEndWord cX11_hEndWord 1 none 0 (rU Q) (fun o => [(2, o)]) τ)
set_option maxHeartbeats 2000000 in
theorem s_hEndWord {τ : TT} {Q : TT → Prop} (hB : ∀ (r5 : -2147483648 ≤ τ.1 121 ∧ τ.1 121 < 2147483648), ∀ (r9 : -2147483648 ≤ τ.1 127 ∧ τ.1 127 < 2147483648), (0 ≤ (τ.1 121) ∧ (τ.1 121) < 2001) ∧ (-2147483648 ≤ ((τ.1 121) + 1) ∧ ((τ.1 121) + 1) < 2147483648) ∧ Q ((τ.a 87 (τ.1 121) (τ.1 127)).s 121 ((τ.1 121) + 1))) : w_hEndWord  τ Q := sorry
def w_hTakeEnclosed (l1 l2 : Int) (τ : TT) (Q : TT → Prop) : Prop := Hid (TC yX11_hTakeEnclosed cX11_hTakeEnclosed 5 none 1 (rU Q) (fun o => [(2, o), (0, l1), (0, l2)]) τ)
def W_hTakeEnclosed_18 (l1 l2 l3 : Int) (τ : TT) (Q : TT → Prop) : Prop := Hid (TJ cX11_hTakeEnclosed 5 none 1 (rU Q) 18 (fun o => [(2, o), (0, l1), (0, l2), (0, l3), vN]) (fun o => []) τ)
def W_hTakeEnclosed_134 (τ : TT) (Q : TT → Prop) : Prop := Hid (TJ cX11_hTakeEnclosed 5 none 1 (rU Q) 134 (fun o => [(2, o), vN, vN, vN, vN]) (fun o => []) τ)
def W_hTakeEnclosed_112 (l1 l2 l3 l4 : Int) (τ : TT) (Q : TT → Prop) : Prop := Hid (TJ cX11_hTakeEnclosed 5 none 1 (rU Q) 112 (fun o => [(2, o), (0, l1), (0, l2), (0, l3), (0, l4)]) (fun o => []) τ)
def W_hTakeEnclosed_121 (l1 l2 l3 l4 : Int) (τ : TT) (Q : TT → Prop) : Prop := Hid (TJ cX11_hTakeEnclosed 5 none 1 (rU Q) 121 (fun o => [(2, o), (0, l1), (0, l2), (0, l3), (0, l4)]) (fun o => []) τ)
set_option maxHeartbeats 2000000 in
theorem s_hTakeEnclosed {l1 l2 : Int} {τ : TT} {Q : TT → Prop} (hB : w_hBeginWord l1 0 τ (fun τ3 => ∀ (r8 : -2147483648 ≤ τ3.1 136 ∧ τ3.1 136 < 2147483648), (-2147483648 ≤ ((τ3.1 136) + 1) ∧ ((τ3.1 136) + 1) < 2147483648) ∧ W_hTakeEnclosed_18 l1 l2 1 (τ3.s 136 ((τ3.1 136) + 1)) Q)) : w_hTakeEnclosed l1 l2 τ Q := sorry
set_option maxHeartbeats 2000000 in
theorem s_hTakeEnclosed_18 {l1 l2 l3 : Int} {τ : TT} {Q : TT → Prop} (hB : ∀ (r19 : -2147483648 ≤ τ.1 136 ∧ τ.1 136 < 2147483648), ∀ (r23 : -2147483648 ≤ τ.1 137 ∧ τ.1 137 < 2147483648), (∀ (c26 : (τ.1 137) ≤ (τ.1 136)), W_hTakeEnclosed_134  τ Q) ∧ (∀ (c26 : (τ.1 136) < (τ.1 137)), (-2147483648 ≤ l3 ∧ l3 < 2147483648) ∧ (∀ (c30 : l3 ≤ 0), W_hTakeEnclosed_134  τ Q) ∧ (∀ (c30 : 0 < l3), (0 ≤ (τ.1 136) ∧ (τ.1 136) < 2100) ∧ ∀ (r41 : -2147483648 ≤ τ.2 83 (τ.1 136) ∧ τ.2 83 (τ.1 136) < 2147483648), (-2147483648 ≤ ((τ.1 136) + 1) ∧ ((τ.1 136) + 1) < 2147483648) ∧ (∀ (c58 : ¬ (τ.2 83 (τ.1 136)) = 92), (-2147483648 ≤ l1 ∧ l1 < 2147483648) ∧ (∀ (c99 : ¬ l1 = 0), W_hTakeEnclosed_112 l1 l2 l3 ((τ.2 83 (τ.1 136))) (τ.s 136 ((τ.1 136) + 1)) Q) ∧ (∀ (c99 : l1 = 0), (∀ (c106 : ¬ (τ.2 83 (τ.1 136)) = 40), W_hTakeEnclosed_112 l1 l2 l3 ((τ.2 83 (τ.1 136))) (τ.s 136 ((τ.1 136) + 1)) Q) ∧ (∀ (c106 : (τ.2 83 (τ.1 136)) = 40), W_hTakeEnclosed_112 l1 l2 ((l3 + 1)) ((τ.2 83 (τ.1 136))) (τ.s 136 ((τ.1 136) + 1)) Q))) ∧ (∀ (c58 : (τ.2 83 (τ.1 136)) = 92), (∀ (c69 : (τ.1 137) ≤ ((τ.1 136) + 1)), W_hTakeEnclosed_18 l1 l2 l3 (τ.s 136 ((τ.1 136) + 1)) Q) ∧ (∀ (c69 : ((τ.1 136) + 1) < (τ.1 137)), (0 ≤ ((τ.1 136) + 1) ∧ ((τ.1 136) + 1) < 2100) ∧ ∀ (r81 : -2147483648 ≤ τ.2 83 ((τ.1 136) + 1) ∧ τ.2 83 ((τ.1 136) + 1) < 2147483648), w_hPut (τ.2 83 ((τ.1 136) + 1)) (τ.s 136 ((τ.1 136) + 1)) (fun τ82 => ∀ (r87 : -2147483648 ≤ τ82.1 136 ∧ τ82.1 136 < 2147483648), (-2147483648 ≤ ((τ82.1 136) + 1) ∧ ((τ82.1 136) + 1) < 2147483648) ∧ W_hTakeEnclosed_18 l1 l2 l3 (τ82.s 136 ((τ82.1 136) + 1)) Q)))))) : W_hTakeEnclosed_18 l1 l2 l3 τ Q := sorry
set_option maxHeartbeats 2000000 in
theorem s_hTakeEnclosed_134 {τ : TT} {Q : TT → Prop} (hB : w_hEndWord  τ (fun τ135 => Q τ135)) : W_hTakeEnclosed_134  τ Q := sorry
set_option maxHeartbeats 2000000 in
theorem s_hTakeEnclosed_112 {l1 l2 l3 l4 : Int} {τ : TT} {Q : TT → Prop} (hB : (-2147483648 ≤ l4 ∧ l4 < 2147483648) ∧ (-2147483648 ≤ l2 ∧ l2 < 2147483648) ∧ (∀ (c115 : ¬ l4 = l2), W_hTakeEnclosed_121 l1 l2 l3 l4 τ Q) ∧ (∀ (c115 : l4 = l2), W_hTakeEnclosed_121 l1 l2 ((l3 + (-1))) l4 τ Q)) : W_hTakeEnclosed_112 l1 l2 l3 l4 τ Q := sorry
set_option maxHeartbeats 2000000 in
theorem s_hTakeEnclosed_121 {l1 l2 l3 l4 : Int} {τ : TT} {Q : TT → Prop} (hB : (-2147483648 ≤ l3 ∧ l3 < 2147483648) ∧ (∀ (c122 : l3 ≤ 0), W_hTakeEnclosed_18 l1 l2 l3 τ Q) ∧ (∀ (c122 : 0 < l3), w_hPut l4 τ (fun τ128 => W_hTakeEnclosed_18 l1 l2 l3 τ128 Q))) : W_hTakeEnclosed_121 l1 l2 l3 l4 τ Q := sorry
def w_hIsSign (l1 : Int) (τ : TT) (Q : Int → TT → Prop) : Prop := Hid (TC yX11_hIsSign cX11_hIsSign 2 (some .boolean) 0 (rZ Q) (fun o => [(2, o), (0, l1)]) τ)
set_option maxHeartbeats 2000000 in
theorem s_hIsSign {l1 : Int} {τ : TT} {Q : Int → TT → Prop} (hB : (-2147483648 ≤ l1 ∧ l1 < 2147483648) ∧ (∀ (c3 : l1 = 60), Q 1 τ) ∧ (∀ (c3 : ¬ l1 = 60), (∀ (c9 : l1 = 62), Q 1 τ) ∧ (∀ (c9 : ¬ l1 = 62), (∀ (c15 : l1 = 58), Q 1 τ) ∧ (∀ (c15 : ¬ l1 = 58), (∀ (c21 : l1 = 59), Q 1 τ) ∧ (∀ (c21 : ¬ l1 = 59), (∀ (c27 : l1 = 64), Q 1 τ) ∧ (∀ (c27 : ¬ l1 = 64), (∀ (c33 : l1 = 44), Q 1 τ) ∧ (∀ (c33 : ¬ l1 = 44), (∀ (c39 : l1 = 41), Q 1 τ) ∧ (∀ (c39 : ¬ l1 = 41), (∀ (c45 : l1 = 93), Q 1 τ) ∧ (∀ (c45 : ¬ l1 = 93), (∀ (c51 : ¬ l1 = 92), ∀ (r57 : 0 ≤ τ.1 138 ∧ τ.1 138 < 2), (∀ (c60 : (τ.1 138) = 0), (∀ (c86 : ¬ l1 = 46), Q 0 τ) ∧ (∀ (c86 : l1 = 46), Q 1 τ)) ∧ (∀ (c60 : ¬ (τ.1 138) = 0), (∀ (c66 : l1 = 61), Q 1 τ) ∧ (∀ (c66 : ¬ l1 = 61), (∀ (c72 : ¬ l1 = 47), Q 0 τ) ∧ (∀ (c72 : l1 = 47), Q 1 τ)))) ∧ (∀ (c51 : l1 = 92), Q 1 τ)))))))))) : w_hIsSign l1 τ Q := sorry
def w_hLook (τ : TT) (Q : Int → TT → Prop) : Prop := Hid (TC yX11_hLook cX11_hLook 1 (some .int) 0 (rI Q) (fun o => [(2, o)]) τ)
set_option maxHeartbeats 2000000 in
theorem s_hLook {τ : TT} {Q : Int → TT → Prop} (hB : ∀ (r1 : -2147483648 ≤ τ.1 136 ∧ τ.1 136 < 2147483648), ∀ (r5 : -2147483648 ≤ τ.1 137 ∧ τ.1 137 < 2147483648), (∀ (c8 : (τ.1 137) ≤ (τ.1 136)), Q (-1) τ) ∧ (∀ (c8 : (τ.1 136) < (τ.1 137)), (0 ≤ (τ.1 136) ∧ (τ.1 136) < 2100) ∧ ∀ (r19 : -2147483648 ≤ τ.2 83 (τ.1 136) ∧ τ.2 83 (τ.1 136) < 2147483648), Q (τ.2 83 (τ.1 136)) τ)) : w_hLook  τ Q := sorry
def w_hTakeAtom (τ : TT) (Q : TT → Prop) : Prop := Hid (TC yX11_hTakeAtom cX11_hTakeAtom 2 none 1 (rU Q) (fun o => [(2, o)]) τ)
def W_hTakeAtom_11 (l1 : Int) (τ : TT) (Q : TT → Prop) : Prop := Hid (TJ cX11_hTakeAtom 2 none 1 (rU Q) 11 (fun o => [(2, o), (0, l1)]) (fun o => []) τ)
def W_hTakeAtom_72 (τ : TT) (Q : TT → Prop) : Prop := Hid (TJ cX11_hTakeAtom 2 none 1 (rU Q) 72 (fun o => [(2, o), vN]) (fun o => []) τ)
set_option maxHeartbeats 2000000 in
theorem s_hTakeAtom {τ : TT} {Q : TT → Prop} (hB : w_hBeginWord 4 0 τ (fun τ3 => w_hLook  τ3 (fun x7 τ7 => ∀ (r7 : -2147483648 ≤ x7 ∧ x7 < 2147483648), W_hTakeAtom_11 x7 τ7 Q))) : w_hTakeAtom  τ Q := sorry
set_option maxHeartbeats 2000000 in
theorem s_hTakeAtom_11 {l1 : Int} {τ : TT} {Q : TT → Prop} (hB : (-2147483648 ≤ l1 ∧ l1 < 2147483648) ∧ (∀ (c13 : l1 = (-1)), W_hTakeAtom_72  τ Q) ∧ (∀ (c13 : ¬ l1 = (-1)), w_hIsNothing l1 τ (fun x17 τ17 => ∀ (r17 : x17 = 0 ∨ x17 = 1), (∀ (c20 : ¬ x17 = 0), W_hTakeAtom_72  τ17 Q) ∧ (∀ (c20 : x17 = 0), (∀ (c26 : l1 = 40), W_hTakeAtom_72  τ17 Q) ∧ (∀ (c26 : ¬ l1 = 40), (∀ (c32 : l1 = 34), W_hTakeAtom_72  τ17 Q) ∧ (∀ (c32 : ¬ l1 = 34), (∀ (c38 : l1 = 91), W_hTakeAtom_72  τ17 Q) ∧ (∀ (c38 : ¬ l1 = 91), w_hIsSign l1 τ17 (fun x43 τ43 => ∀ (r43 : x43 = 0 ∨ x43 = 1), (∀ (c46 : ¬ x43 = 0), W_hTakeAtom_72  τ43 Q) ∧ (∀ (c46 : x43 = 0), w_hPut l1 τ43 (fun τ51 => ∀ (r56 : -2147483648 ≤ τ51.1 136 ∧ τ51.1 136 < 2147483648), (-2147483648 ≤ ((τ51.1 136) + 1) ∧ ((τ51.1 136) + 1) < 2147483648) ∧ w_hLook  (τ51.s 136 ((τ51.1 136) + 1)) (fun x65 τ65 => ∀ (r65 : -2147483648 ≤ x65 ∧ x65 < 2147483648), W_hTakeAtom_11 x65 τ65 Q))))))))))) : W_hTakeAtom_11 l1 τ Q := sorry
set_option maxHeartbeats 2000000 in
theorem s_hTakeAtom_72 {τ : TT} {Q : TT → Prop} (hB : w_hEndWord  τ (fun τ73 => Q τ73)) : W_hTakeAtom_72  τ Q := sorry
def w_hCut (l1 l2 : Int) (τ : TT) (Q : TT → Prop) : Prop := Hid (TC yX11_hCut cX11_hCut 4 none 2 (rU Q) (fun o => [(2, o), (0, l1), (0, l2)]) τ)
def W_hCut_40 (τ : TT) (Q : TT → Prop) : Prop := Hid (TJ cX11_hCut 4 none 2 (rU Q) 40 (fun o => [(2, o), vN, vN, vN]) (fun o => []) τ)
set_option maxHeartbeats 2000000 in
theorem s_hCut {l1 l2 : Int} {τ : TT} {Q : TT → Prop} (hB : (0 ≤ l2 ∧ l2 < 2) ∧ (0 ≤ l1 ∧ l1 < 40) ∧ ∀ (r21 : -2147483648 ≤ τ.2 81 l1 ∧ τ.2 81 l1 < 2147483648), ∀ (r35 : -2147483648 ≤ τ.2 82 l1 ∧ τ.2 82 l1 < 2147483648), (-2147483648 ≤ ((τ.2 81 l1) + (τ.2 82 l1)) ∧ ((τ.2 81 l1) + (τ.2 82 l1)) < 2147483648) ∧ W_hCut_40  (((((τ.s 121 0).s 127 0).s 138 l2).s 136 (τ.2 81 l1)).s 137 ((τ.2 81 l1) + (τ.2 82 l1))) Q) : w_hCut l1 l2 τ Q := sorry
set_option maxHeartbeats 2000000 in
theorem s_hCut_40 {τ : TT} {Q : TT → Prop} (hB : ∀ (r41 : -2147483648 ≤ τ.1 136 ∧ τ.1 136 < 2147483648), ∀ (r45 : -2147483648 ≤ τ.1 137 ∧ τ.1 137 < 2147483648), (∀ (c48 : (τ.1 137) ≤ (τ.1 136)), Q τ) ∧ (∀ (c48 : (τ.1 136) < (τ.1 137)), (0 ≤ (τ.1 136) ∧ (τ.1 136) < 2100) ∧ ∀ (r59 : -2147483648 ≤ τ.2 83 (τ.1 136) ∧ τ.2 83 (τ.1 136) < 2147483648), w_hIsNothing (τ.2 83 (τ.1 136)) τ (fun x62 τ62 => ∀ (r62 : x62 = 0 ∨ x62 = 1), (∀ (c65 : x62 = 0), (∀ (c84 : ¬ (τ.2 83 (τ.1 136)) = 40), (∀ (c100 : ¬ (τ.2 83 (τ.1 136)) = 34), (∀ (c116 : ¬ (τ.2 83 (τ.1 136)) = 91), w_hIsSign (τ.2 83 (τ.1 136)) τ62 (fun x131 τ131 => ∀ (r131 : x131 = 0 ∨ x131 = 1), (∀ (c134 : x131 = 0), w_hTakeAtom  τ131 (fun τ166 => W_hCut_40  τ166 Q)) ∧ (∀ (c134 : ¬ x131 = 0), w_hBeginWord 3 (τ.2 83 (τ.1 136)) τ131 (fun τ140 => w_hPut (τ.2 83 (τ.1 136)) τ140 (fun τ145 => ∀ (r150 : -2147483648 ≤ τ145.1 136 ∧ τ145.1 136 < 2147483648), (-2147483648 ≤ ((τ145.1 136) + 1) ∧ ((τ145.1 136) + 1) < 2147483648) ∧ w_hEndWord  (τ145.s 136 ((τ145.1 136) + 1)) (fun τ159 => W_hCut_40  τ159 Q)))))) ∧ (∀ (c116 : (τ.2 83 (τ.1 136)) = 91), w_hTakeEnclosed 2 93 τ62 (fun τ123 => W_hCut_40  τ123 Q))) ∧ (∀ (c100 : (τ.2 83 (τ.1 136)) = 34), w_hTakeEnclosed 1 34 τ62 (fun τ107 => W_hCut_40  τ107 Q))) ∧ (∀ (c84 : (τ.2 83 (τ.1 136)) = 40), w_hTakeEnclosed 0 41 τ62 (fun τ91 => W_hCut_40  τ91 Q))) ∧ (∀ (c65 : ¬ x62 = 0), ∀ (r70 : -2147483648 ≤ τ62.1 136 ∧ τ62.1 136 < 2147483648), (-2147483648 ≤ ((τ62.1 136) + 1) ∧ ((τ62.1 136) + 1) < 2147483648) ∧ W_hCut_40  (τ62.s 136 ((τ62.1 136) + 1)) Q)))) : W_hCut_40  τ Q := sorry
def w_hForget (l1 l2 l3 : Int) (τ : TT) (Q : TT → Prop) : Prop := Hid (TC yX11_hForget cX11_hForget 5 none 0 (rU Q) (fun o => [(2, o), (0, l1), (0, l2), (0, l3)]) τ)
def W_hForget_3 (l2 l3 l4 : Int) (τ : TT) (Q : TT → Prop) : Prop := Hid (TJ cX11_hForget 5 none 0 (rU Q) 3 (fun o => [(2, o), vN, (0, l2), (0, l3), (0, l4)]) (fun o => []) τ)
set_option maxHeartbeats 2000000 in
theorem s_hForget {l1 l2 l3 : Int} {τ : TT} {Q : TT → Prop} (hB : W_hForget_3 l2 l3 l1 τ Q) : w_hForget l1 l2 l3 τ Q := sorry
set_option maxHeartbeats 2000000 in
theorem s_hForget_3 {l2 l3 l4 : Int} {τ : TT} {Q : TT → Prop} (hB : (-2147483648 ≤ l4 ∧ l4 < 2147483648) ∧ (-2147483648 ≤ l2 ∧ l2 < 2147483648) ∧ (∀ (c6 : l2 < l4), (0 ≤ l3 ∧ l3 < 3) ∧ Q (τ.a 90 l3 0)) ∧ (∀ (c6 : l4 ≤ l2), (0 ≤ l4 ∧ l4 < 7) ∧ W_hForget_3 l2 l3 ((l4 + 1)) (τ.a 91 l4 0) Q)) : W_hForget_3 l2 l3 l4 τ Q := sorry
def w_hIs (l1 l2 : Int) (τ : TT) (Q : Int → TT → Prop) : Prop := Hid (TC yX11_hIs cX11_hIs 3 (some .boolean) 0 (rZ Q) (fun o => [(2, o), (0, l1), (0, l2)]) τ)
set_option maxHeartbeats 2000000 in
theorem s_hIs {l1 l2 : Int} {τ : TT} {Q : Int → TT → Prop} (hB : (0 ≤ l1 ∧ l1 < 2001) ∧ ∀ (r5 : -2147483648 ≤ τ.2 84 l1 ∧ τ.2 84 l1 < 2147483648), (∀ (c7 : ¬ (τ.2 84 l1) = 3), Q 0 τ) ∧ (∀ (c7 : (τ.2 84 l1) = 3), ∀ (r15 : -2147483648 ≤ τ.2 85 l1 ∧ τ.2 85 l1 < 2147483648), (-2147483648 ≤ l2 ∧ l2 < 2147483648) ∧ (∀ (c17 : ¬ (τ.2 85 l1) = l2), Q 0 τ) ∧ (∀ (c17 : (τ.2 85 l1) = l2), Q 1 τ))) : w_hIs l1 l2 τ Q := sorry
def w_hNext (l1 l2 : Int) (τ : TT) (Q : Int → TT → Prop) : Prop := Hid (TC yX11_hNext cX11_hNext 4 (some .int) 0 (rI Q) (fun o => [(2, o), (0, l1), (0, l2)]) τ)
def W_hNext_2 (l2 l3 : Int) (τ : TT) (Q : Int → TT → Prop) : Prop := Hid (TJ cX11_hNext 4 (some .int) 0 (rI Q) 2 (fun o => [(2, o), vN, (0, l2), (0, l3)]) (fun o => []) τ)
set_option maxHeartbeats 2000000 in
theorem s_hNext {l1 l2 : Int} {τ : TT} {Q : Int → TT → Prop} (hB : W_hNext_2 l2 l1 τ Q) : w_hNext l1 l2 τ Q := sorry
set_option maxHeartbeats 2000000 in
theorem s_hNext_2 {l2 l3 : Int} {τ : TT} {Q : Int → TT → Prop} (hB : (-2147483648 ≤ l3 ∧ l3 < 2147483648) ∧ (-2147483648 ≤ l2 ∧ l2 < 2147483648) ∧ (∀ (c4 : l2 ≤ l3), Q l3 τ) ∧ (∀ (c4 : l3 < l2), (0 ≤ l3 ∧ l3 < 2001) ∧ ∀ (r12 : -2147483648 ≤ τ.2 84 l3 ∧ τ.2 84 l3 < 2147483648), (∀ (c13 : ¬ (τ.2 84 l3) = 0), Q l3 τ) ∧ (∀ (c13 : (τ.2 84 l3) = 0), W_hNext_2 l2 ((l3 + 1)) τ Q))) : W_hNext_2 l2 l3 τ Q := sorry
def w_hIsName (l1 l2 : Int) (τ : TT) (Q : Int → TT → Prop) : Prop := Hid (TC yX11_hIsName cX11_hIsName 5 (some .boolean) 1 (rZ Q) (fun o => [(2, o), (0, l1), (0, l2)]) τ)
def W_hIsName_10 (l2 l3 l4 : Int) (τ : TT) (Q : Int → TT → Prop) : Prop := Hid (TJ cX11_hIsName 5 (some .boolean) 1 (rZ Q) 10 (fun o => [(2, o), vN, (0, l2), (0, l3), (0, l4)]) (fun o => []) τ)
def W_hIsName_51 (l2 l3 l4 : Int) (τ : TT) (Q : Int → TT → Prop) : Prop := Hid (TJ cX11_hIsName 5 (some .boolean) 1 (rZ Q) 51 (fun o => [(2, o), vN, (0, l2), (0, l3), (0, l4)]) (fun o => []) τ)
set_option maxHeartbeats 2000000 in
theorem s_hIsName {l1 l2 : Int} {τ : TT} {Q : Int → TT → Prop} (hB : w_hNext l1 l2 τ (fun x5 τ5 => ∀ (r5 : -2147483648 ≤ x5 ∧ x5 < 2147483648), W_hIsName_10 l2 0 x5 τ5 Q)) : w_hIsName l1 l2 τ Q := sorry
set_option maxHeartbeats 2000000 in
theorem s_hIsName_10 {l2 l3 l4 : Int} {τ : TT} {Q : Int → TT → Prop} (hB : (-2147483648 ≤ l4 ∧ l4 < 2147483648) ∧ (-2147483648 ≤ l2 ∧ l2 < 2147483648) ∧ (∀ (c13 : l2 ≤ l4), (-2147483648 ≤ l3 ∧ l3 < 2147483648) ∧ (∀ (c69 : l3 ≤ 0), Q 0 τ) ∧ (∀ (c69 : 0 < l3), Q 1 τ)) ∧ (∀ (c13 : l4 < l2), (0 ≤ l4 ∧ l4 < 2001) ∧ ∀ (r22 : -2147483648 ≤ τ.2 84 l4 ∧ τ.2 84 l4 < 2147483648), (∀ (c24 : (τ.2 84 l4) = 4), W_hIsName_51 l2 l3 l4 τ Q) ∧ (∀ (c24 : ¬ (τ.2 84 l4) = 4), ∀ (r33 : -2147483648 ≤ τ.2 84 l4 ∧ τ.2 84 l4 < 2147483648), (∀ (c35 : (τ.2 84 l4) = 1), W_hIsName_51 l2 l3 l4 τ Q) ∧ (∀ (c35 : ¬ (τ.2 84 l4) = 1), w_hIs l4 46 τ (fun x43 τ43 => ∀ (r43 : x43 = 0 ∨ x43 = 1), (∀ (c46 : ¬ x43 = 0), W_hIsName_51 l2 l3 l4 τ43 Q) ∧ (∀ (c46 : x43 = 0), Q 0 τ43)))))) : W_hIsName_10 l2 l3 l4 τ Q := sorry
set_option maxHeartbeats 2000000 in
theorem s_hIsName_51 {l2 l3 l4 : Int} {τ : TT} {Q : Int → TT → Prop} (hB : w_hNext (l4 + 1) l2 τ (fun x60 τ60 => ∀ (r60 : -2147483648 ≤ x60 ∧ x60 < 2147483648), W_hIsName_10 l2 ((l3 + 1)) x60 τ60 Q)) : W_hIsName_51 l2 l3 l4 τ Q := sorry
def w_hAreaOf (l0 : Int) (τ : TT) (Q : Int → TT → Prop) : Prop := Hid (TC yX11_hAreaOf cX11_hAreaOf 1 (some .int) 0 (rI Q) (fun o => [(0, l0)]) τ)
set_option maxHeartbeats 2000000 in
theorem s_hAreaOf {l0 : Int} {τ : TT} {Q : Int → TT → Prop} (hB : (-2147483648 ≤ l0 ∧ l0 < 2147483648) ∧ (∀ (c2 : 4 ≤ l0), (∀ (c11 : ¬ l0 = 4), Q 2 τ) ∧ (∀ (c11 : l0 = 4), Q 1 τ)) ∧ (∀ (c2 : l0 < 4), Q 0 τ)) : w_hAreaOf l0 τ Q := sorry
def w_hRoomAt (l1 : Int) (τ : TT) (Q : Int → TT → Prop) : Prop := Hid (TC yX11_hRoomAt cX11_hRoomAt 2 (some .int) 1 (rI Q) (fun o => [(2, o), (0, l1)]) τ)
set_option maxHeartbeats 2000000 in
theorem s_hRoomAt {l1 : Int} {τ : TT} {Q : Int → TT → Prop} (hB : w_hAreaOf l1 τ (fun x4 τ4 => ∀ (r4 : -2147483648 ≤ x4 ∧ x4 < 2147483648), w_hAreaOf l1 τ4 (fun x13 τ13 => ∀ (r13 : -2147483648 ≤ x13 ∧ x13 < 2147483648), (0 ≤ x13 ∧ x13 < 3) ∧ ∀ (r16 : -2147483648 ≤ τ13.2 90 x13 ∧ τ13.2 90 x13 < 2147483648), (-2147483648 ≤ ((6000 * x4) + (τ13.2 90 x13)) ∧ ((6000 * x4) + (τ13.2 90 x13)) < 2147483648) ∧ Q ((6000 * x4) + (τ13.2 90 x13)) τ13))) : w_hRoomAt l1 τ Q := sorry
def w_hBeginPart (l1 : Int) (τ : TT) (Q : TT → Prop) : Prop := Hid (TC yX11_hBeginPart cX11_hBeginPart 3 none 2 (rU Q) (fun o => [(2, o), (0, l1)]) τ)
set_option maxHeartbeats 2000000 in
theorem s_hBeginPart {l1 : Int} {τ : TT} {Q : TT → Prop} (hB : (0 ≤ l1 ∧ l1 < 7) ∧ ∀ (r10 : -2147483648 ≤ τ.2 91 l1 ∧ τ.2 91 l1 < 2147483648), w_hRoomAt l1 τ (fun x20 τ20 => ∀ (r20 : -2147483648 ≤ x20 ∧ x20 < 2147483648), (0 ≤ ((1000 * l1) + (τ.2 91 l1)) ∧ ((1000 * l1) + (τ.2 91 l1)) < 7000) ∧ Q ((τ20.a 92 ((1000 * l1) + (τ.2 91 l1)) x20).a 93 ((1000 * l1) + (τ.2 91 l1)) 0))) : w_hBeginPart l1 τ Q := sorry
def w_hAdd (l1 l2 : Int) (τ : TT) (Q : TT → Prop) : Prop := Hid (TC yX11_hAdd cX11_hAdd 3 none 2 (rU Q) (fun o => [(2, o), (0, l1), (0, l2)]) τ)
set_option maxHeartbeats 2000000 in
theorem s_hAdd {l1 l2 : Int} {τ : TT} {Q : TT → Prop} (hB : w_hRoomAt l1 τ (fun x6 τ6 => ∀ (r6 : -2147483648 ≤ x6 ∧ x6 < 2147483648), (0 ≤ x6 ∧ x6 < 20000) ∧ (-2147483648 ≤ l2 ∧ l2 < 2147483648) ∧ w_hAreaOf l1 (τ6.a 89 x6 l2) (fun x16 τ16 => ∀ (r16 : -2147483648 ≤ x16 ∧ x16 < 2147483648), (0 ≤ x16 ∧ x16 < 3) ∧ ∀ (r20 : -2147483648 ≤ τ16.2 90 x16 ∧ τ16.2 90 x16 < 2147483648), (-2147483648 ≤ ((τ16.2 90 x16) + 1) ∧ ((τ16.2 90 x16) + 1) < 2147483648) ∧ (0 ≤ l1 ∧ l1 < 7) ∧ ∀ (r38 : -2147483648 ≤ τ16.2 91 l1 ∧ τ16.2 91 l1 < 2147483648), (0 ≤ ((1000 * l1) + (τ16.2 91 l1)) ∧ ((1000 * l1) + (τ16.2 91 l1)) < 7000) ∧ ∀ (r41 : -2147483648 ≤ τ16.2 93 ((1000 * l1) + (τ16.2 91 l1)) ∧ τ16.2 93 ((1000 * l1) + (τ16.2 91 l1)) < 2147483648), (-2147483648 ≤ ((τ16.2 93 ((1000 * l1) + (τ16.2 91 l1))) + 1) ∧ ((τ16.2 93 ((1000 * l1) + (τ16.2 91 l1))) + 1) < 2147483648) ∧ Q ((τ16.a 90 x16 ((τ16.2 90 x16) + 1)).a 93 ((1000 * l1) + (τ16.2 91 l1)) ((τ16.2 93 ((1000 * l1) + (τ16.2 91 l1))) + 1))))) : w_hAdd l1 l2 τ Q := sorry
def w_hAddWord (l1 l2 : Int) (τ : TT) (Q : TT → Prop) : Prop := Hid (TC yX11_hAddWord cX11_hAddWord 4 none 3 (rU Q) (fun o => [(2, o), (0, l1), (0, l2)]) τ)
def W_hAddWord_7 (l1 l2 l3 : Int) (τ : TT) (Q : TT → Prop) : Prop := Hid (TJ cX11_hAddWord 4 none 3 (rU Q) 7 (fun o => [(2, o), (0, l1), (0, l2), (0, l3)]) (fun o => []) τ)
set_option maxHeartbeats 2000000 in
theorem s_hAddWord {l1 l2 : Int} {τ : TT} {Q : TT → Prop} (hB : (0 ≤ l2 ∧ l2 < 2001) ∧ ∀ (r5 : -2147483648 ≤ τ.2 86 l2 ∧ τ.2 86 l2 < 2147483648), W_hAddWord_7 l1 l2 ((τ.2 86 l2)) τ Q) : w_hAddWord l1 l2 τ Q := sorry
set_option maxHeartbeats 2000000 in
theorem s_hAddWord_7 {l1 l2 l3 : Int} {τ : TT} {Q : TT → Prop} (hB : (0 ≤ l2 ∧ l2 < 2001) ∧ ∀ (r13 : -2147483648 ≤ τ.2 87 l2 ∧ τ.2 87 l2 < 2147483648), (-2147483648 ≤ l3 ∧ l3 < 2147483648) ∧ (∀ (c14 : (τ.2 87 l2) ≤ l3), Q τ) ∧ (∀ (c14 : l3 < (τ.2 87 l2)), (0 ≤ l3 ∧ l3 < 2100) ∧ ∀ (r24 : -2147483648 ≤ τ.2 88 l3 ∧ τ.2 88 l3 < 2147483648), w_hAdd l1 (τ.2 88 l3) τ (fun τ25 => W_hAddWord_7 l1 l2 ((l3 + 1)) τ25 Q))) : W_hAddWord_7 l1 l2 l3 τ Q := sorry
def w_hEndPart (l1 : Int) (τ : TT) (Q : TT → Prop) : Prop := Hid (TC yX11_hEndPart cX11_hEndPart 2 none 0 (rU Q) (fun o => [(2, o), (0, l1)]) τ)
set_option maxHeartbeats 2000000 in
theorem s_hEndPart {l1 : Int} {τ : TT} {Q : TT → Prop} (hB : (0 ≤ l1 ∧ l1 < 7) ∧ ∀ (r6 : -2147483648 ≤ τ.2 91 l1 ∧ τ.2 91 l1 < 2147483648), (-2147483648 ≤ ((τ.2 91 l1) + 1) ∧ ((τ.2 91 l1) + 1) < 2147483648) ∧ Q (τ.a 91 l1 ((τ.2 91 l1) + 1))) : w_hEndPart l1 τ Q := sorry
def w_hMakeName (l1 l2 l3 : Int) (τ : TT) (Q : TT → Prop) : Prop := Hid (TC yX11_hMakeName cX11_hMakeName 6 none 4 (rU Q) (fun o => [(2, o), (0, l1), (0, l2), (0, l3)]) τ)
def W_hMakeName_16 (l1 l3 l4 l5 : Int) (τ : TT) (Q : TT → Prop) : Prop := Hid (TJ cX11_hMakeName 6 none 4 (rU Q) 16 (fun o => [(2, o), (0, l1), vN, (0, l3), (0, l4), (0, l5)]) (fun o => []) τ)
def W_hMakeName_45 (l1 l3 l5 : Int) (τ : TT) (Q : TT → Prop) : Prop := Hid (TJ cX11_hMakeName 6 none 4 (rU Q) 45 (fun o => [(2, o), (0, l1), vN, (0, l3), vN, (0, l5)]) (fun o => []) τ)
set_option maxHeartbeats 2000000 in
theorem s_hMakeName {l1 l2 l3 : Int} {τ : TT} {Q : TT → Prop} (hB : w_hBeginPart l1 τ (fun τ2 => w_hNext l2 l3 τ2 (fun x11 τ11 => ∀ (r11 : -2147483648 ≤ x11 ∧ x11 < 2147483648), W_hMakeName_16 l1 l3 0 x11 τ11 Q))) : w_hMakeName l1 l2 l3 τ Q := sorry
set_option maxHeartbeats 2000000 in
theorem s_hMakeName_16 {l1 l3 l4 l5 : Int} {τ : TT} {Q : TT → Prop} (hB : (-2147483648 ≤ l5 ∧ l5 < 2147483648) ∧ (-2147483648 ≤ l3 ∧ l3 < 2147483648) ∧ (∀ (c19 : l3 ≤ l5), w_hEndPart l1 τ (fun τ71 => Q τ71)) ∧ (∀ (c19 : l5 < l3), (-2147483648 ≤ l4 ∧ l4 < 2147483648) ∧ (∀ (c24 : l4 = 0), W_hMakeName_45 l1 l3 l5 τ Q) ∧ (∀ (c24 : ¬ l4 = 0), w_hIs l5 46 τ (fun x32 τ32 => ∀ (r32 : x32 = 0 ∨ x32 = 1), (∀ (c35 : ¬ x32 = 0), W_hMakeName_45 l1 l3 l5 τ32 Q) ∧ (∀ (c35 : x32 = 0), w_hAdd l1 32 τ32 (fun τ42 => W_hMakeName_45 l1 l3 l5 τ42 Q)))))) : W_hMakeName_16 l1 l3 l4 l5 τ Q := sorry
set_option maxHeartbeats 2000000 in
theorem s_hMakeName_45 {l1 l3 l5 : Int} {τ : TT} {Q : TT → Prop} (hB : w_hAddWord l1 l5 τ (fun τ49 => w_hNext (l5 + 1) l3 τ49 (fun x61 τ61 => ∀ (r61 : -2147483648 ≤ x61 ∧ x61 < 2147483648), W_hMakeName_16 l1 l3 1 x61 τ61 Q))) : W_hMakeName_45 l1 l3 l5 τ Q := sorry
def w_hBeginGroup (l1 l2 : Int) (τ : TT) (Q : TT → Prop) : Prop := Hid (TC yX11_hBeginGroup cX11_hBeginGroup 4 none 5 (rU Q) (fun o => [(2, o), (0, l1), (0, l2)]) τ)
def W_hBeginGroup_31 (l1 l2 l3 : Int) (τ : TT) (Q : TT → Prop) : Prop := Hid (TJ cX11_hBeginGroup 4 none 5 (rU Q) 31 (fun o => [(2, o), (0, l1), (0, l2), (0, l3)]) (fun o => []) τ)
def W_hBeginGroup_55 (τ : TT) (Q : TT → Prop) : Prop := Hid (TJ cX11_hBeginGroup 4 none 5 (rU Q) 55 (fun o => [(2, o), vN, vN, vN]) (fun o => []) τ)
set_option maxHeartbeats 2000000 in
theorem s_hBeginGroup {l1 l2 : Int} {τ : TT} {Q : TT → Prop} (hB : w_hIsName l1 l2 τ (fun x3 τ3 => ∀ (r3 : x3 = 0 ∨ x3 = 1), (∀ (c8 : ¬ x3 = 0), W_hBeginGroup_31 l1 l2 x3 τ3 Q) ∧ (∀ (c8 : x3 = 0), w_hNext l1 l2 τ3 (fun x14 τ14 => ∀ (r14 : -2147483648 ≤ x14 ∧ x14 < 2147483648), (-2147483648 ≤ l2 ∧ l2 < 2147483648) ∧ (∀ (c18 : l2 ≤ x14), W_hBeginGroup_31 l1 l2 x3 τ14 Q) ∧ (∀ (c18 : x14 < l2), ∀ (r23 : -2147483648 ≤ τ14.1 134 ∧ τ14.1 134 < 2147483648), (-2147483648 ≤ ((τ14.1 134) + 1) ∧ ((τ14.1 134) + 1) < 2147483648) ∧ W_hBeginGroup_31 l1 l2 x3 (τ14.s 134 ((τ14.1 134) + 1)) Q))))) : w_hBeginGroup l1 l2 τ Q := sorry
set_option maxHeartbeats 2000000 in
theorem s_hBeginGroup_31 {l1 l2 l3 : Int} {τ : TT} {Q : TT → Prop} (hB : (-2147483648 ≤ l3 ∧ l3 < 2147483648) ∧ (∀ (c32 : l3 = 0), w_hBeginPart 3 τ (fun τ47 => w_hEndPart 3 τ47 (fun τ52 => W_hBeginGroup_55  τ52 Q))) ∧ (∀ (c32 : ¬ l3 = 0), w_hMakeName 3 l1 l2 τ (fun τ39 => W_hBeginGroup_55  τ39 Q))) : W_hBeginGroup_31 l1 l2 l3 τ Q := sorry
set_option maxHeartbeats 2000000 in
theorem s_hBeginGroup_55 {τ : TT} {Q : TT → Prop} (hB : ∀ (r57 : -2147483648 ≤ τ.1 133 ∧ τ.1 133 < 2147483648), (-2147483648 ≤ ((τ.1 133) + 1) ∧ ((τ.1 133) + 1) < 2147483648) ∧ Q (τ.s 133 ((τ.1 133) + 1))) : W_hBeginGroup_55  τ Q := sorry
def w_hBehindRoute (l1 l2 : Int) (τ : TT) (Q : Int → TT → Prop) : Prop := Hid (TC yX11_hBehindRoute cX11_hBehindRoute 4 (some .int) 1 (rI Q) (fun o => [(2, o), (0, l1), (0, l2)]) τ)
def W_hBehindRoute_7 (l1 l2 l3 : Int) (τ : TT) (Q : Int → TT → Prop) : Prop := Hid (TJ cX11_hBehindRoute 4 (some .int) 1 (rI Q) 7 (fun o => [(2, o), (0, l1), (0, l2), (0, l3)]) (fun o => []) τ)
def W_hBehindRoute_68 (l1 l2 l3 : Int) (τ : TT) (Q : Int → TT → Prop) : Prop := Hid (TJ cX11_hBehindRoute 4 (some .int) 1 (rI Q) 68 (fun o => [(2, o), (0, l1), (0, l2), (0, l3)]) (fun o => []) τ)
set_option maxHeartbeats 2000000 in
theorem s_hBehindRoute {l1 l2 : Int} {τ : TT} {Q : Int → TT → Prop} (hB : w_hNext l1 l2 τ (fun x3 τ3 => ∀ (r3 : -2147483648 ≤ x3 ∧ x3 < 2147483648), W_hBehindRoute_7 l1 l2 x3 τ3 Q)) : w_hBehindRoute l1 l2 τ Q := sorry
set_option maxHeartbeats 2000000 in
theorem s_hBehindRoute_7 {l1 l2 l3 : Int} {τ : TT} {Q : Int → TT → Prop} (hB : (-2147483648 ≤ l3 ∧ l3 < 2147483648) ∧ (-2147483648 ≤ l2 ∧ l2 < 2147483648) ∧ (∀ (c9 : l2 ≤ l3), (-2147483648 ≤ l1 ∧ l1 < 2147483648) ∧ Q l1 τ) ∧ (∀ (c9 : l3 < l2), w_hIs l3 58 τ (fun x16 τ16 => ∀ (r16 : x16 = 0 ∨ x16 = 1), (∀ (c19 : x16 = 0), (0 ≤ l3 ∧ l3 < 2001) ∧ ∀ (r31 : -2147483648 ≤ τ16.2 84 l3 ∧ τ16.2 84 l3 < 2147483648), (∀ (c33 : (τ16.2 84 l3) = 4), W_hBehindRoute_68 l1 l2 l3 τ16 Q) ∧ (∀ (c33 : ¬ (τ16.2 84 l3) = 4), w_hIs l3 64 τ16 (fun x40 τ40 => ∀ (r40 : x40 = 0 ∨ x40 = 1), (∀ (c43 : ¬ x40 = 0), W_hBehindRoute_68 l1 l2 l3 τ40 Q) ∧ (∀ (c43 : x40 = 0), w_hIs l3 44 τ40 (fun x50 τ50 => ∀ (r50 : x50 = 0 ∨ x50 = 1), (∀ (c53 : ¬ x50 = 0), W_hBehindRoute_68 l1 l2 l3 τ50 Q) ∧ (∀ (c53 : x50 = 0), w_hIs l3 46 τ50 (fun x60 τ60 => ∀ (r60 : x60 = 0 ∨ x60 = 1), (∀ (c63 : ¬ x60 = 0), W_hBehindRoute_68 l1 l2 l3 τ60 Q) ∧ (∀ (c63 : x60 = 0), (-2147483648 ≤ l1 ∧ l1 < 2147483648) ∧ Q l1 τ60)))))))) ∧ (∀ (c19 : ¬ x16 = 0), (-2147483648 ≤ (l3 + 1) ∧ (l3 + 1) < 2147483648) ∧ Q (l3 + 1) τ16)))) : W_hBehindRoute_7 l1 l2 l3 τ Q := sorry
set_option maxHeartbeats 2000000 in
theorem s_hBehindRoute_68 {l1 l2 l3 : Int} {τ : TT} {Q : Int → TT → Prop} (hB : w_hNext (l3 + 1) l2 τ (fun x73 τ73 => ∀ (r73 : -2147483648 ≤ x73 ∧ x73 < 2147483648), W_hBehindRoute_7 l1 l2 x73 τ73 Q)) : W_hBehindRoute_68 l1 l2 l3 τ Q := sorry
def w_hIsRowWord (l1 l2 l3 : Int) (τ : TT) (Q : Int → TT → Prop) : Prop := Hid (TC yX11_hIsRowWord cX11_hIsRowWord 4 (some .boolean) 0 (rZ Q) (fun o => [(2, o), (0, l1), (0, l2), (0, l3)]) τ)
set_option maxHeartbeats 2000000 in
theorem s_hIsRowWord {l1 l2 l3 : Int} {τ : TT} {Q : Int → TT → Prop} (hB : (-2147483648 ≤ l1 ∧ l1 < 2147483648) ∧ (-2147483648 ≤ l2 ∧ l2 < 2147483648) ∧ (∀ (c2 : l2 ≤ l1), Q 0 τ) ∧ (∀ (c2 : l1 < l2), (0 ≤ l1 ∧ l1 < 2001) ∧ ∀ (r10 : -2147483648 ≤ τ.2 84 l1 ∧ τ.2 84 l1 < 2147483648), (∀ (c12 : (τ.2 84 l1) = 4), Q 1 τ) ∧ (∀ (c12 : ¬ (τ.2 84 l1) = 4), (-2147483648 ≤ l3 ∧ l3 < 2147483648) ∧ (∀ (c16 : l3 = 0), Q 0 τ) ∧ (∀ (c16 : ¬ l3 = 0), ∀ (r24 : -2147483648 ≤ τ.2 84 l1 ∧ τ.2 84 l1 < 2147483648), (∀ (c26 : ¬ (τ.2 84 l1) = 1), Q 0 τ) ∧ (∀ (c26 : (τ.2 84 l1) = 1), Q 1 τ))))) : w_hIsRowWord l1 l2 l3 τ Q := sorry
def w_hRowEnd (l1 l2 l3 : Int) (τ : TT) (Q : Int → TT → Prop) : Prop := Hid (TC yX11_hRowEnd cX11_hRowEnd 8 (some .int) 1 (rI Q) (fun o => [(2, o), (0, l1), (0, l2), (0, l3)]) τ)
def W_hRowEnd_27 (l2 l3 l4 l5 : Int) (τ : TT) (Q : Int → TT → Prop) : Prop := Hid (TJ cX11_hRowEnd 8 (some .int) 1 (rI Q) 27 (fun o => [(2, o), vN, (0, l2), (0, l3), (0, l4), (0, l5), vN, vN]) (fun o => []) τ)
def W_hRowEnd_70 (l2 l3 l4 l6 : Int) (τ : TT) (Q : Int → TT → Prop) : Prop := Hid (TJ cX11_hRowEnd 8 (some .int) 1 (rI Q) 70 (fun o => [(2, o), vN, (0, l2), (0, l3), (0, l4), vN, (0, l6), vN]) (fun o => []) τ)
def W_hRowEnd_71 (l2 l3 l4 l6 s0 : Int) (τ : TT) (Q : Int → TT → Prop) : Prop := Hid (TJ cX11_hRowEnd 8 (some .int) 1 (rI Q) 71 (fun o => [(2, o), vN, (0, l2), (0, l3), (0, l4), vN, (0, l6), vN]) (fun o => [(0, s0)]) τ)
def W_hRowEnd_105 (l2 l3 l4 l7 : Int) (τ : TT) (Q : Int → TT → Prop) : Prop := Hid (TJ cX11_hRowEnd 8 (some .int) 1 (rI Q) 105 (fun o => [(2, o), vN, (0, l2), (0, l3), (0, l4), vN, vN, (0, l7)]) (fun o => []) τ)
def W_hRowEnd_106 (l2 l3 l4 l7 s0 : Int) (τ : TT) (Q : Int → TT → Prop) : Prop := Hid (TJ cX11_hRowEnd 8 (some .int) 1 (rI Q) 106 (fun o => [(2, o), vN, (0, l2), (0, l3), (0, l4), vN, vN, (0, l7)]) (fun o => [(0, s0)]) τ)
set_option maxHeartbeats 2000000 in
theorem s_hRowEnd {l1 l2 l3 : Int} {τ : TT} {Q : Int → TT → Prop} (hB : w_hNext l1 l2 τ (fun x3 τ3 => ∀ (r3 : -2147483648 ≤ x3 ∧ x3 < 2147483648), w_hIsRowWord x3 l2 l3 τ3 (fun x13 τ13 => ∀ (r13 : x13 = 0 ∨ x13 = 1), (∀ (c16 : ¬ x13 = 0), W_hRowEnd_27 l2 l3 ((x3 + 1)) 1 τ13 Q) ∧ (∀ (c16 : x13 = 0), (-2147483648 ≤ l1 ∧ l1 < 2147483648) ∧ Q l1 τ13)))) : w_hRowEnd l1 l2 l3 τ Q := sorry
set_option maxHeartbeats 2000000 in
theorem s_hRowEnd_27 {l2 l3 l4 l5 : Int} {τ : TT} {Q : Int → TT → Prop} (hB : (-2147483648 ≤ l5 ∧ l5 < 2147483648) ∧ (∀ (c29 : l5 = 0), (-2147483648 ≤ l4 ∧ l4 < 2147483648) ∧ Q l4 τ) ∧ (∀ (c29 : ¬ l5 = 0), w_hNext l4 l2 τ (fun x36 τ36 => ∀ (r36 : -2147483648 ≤ x36 ∧ x36 < 2147483648), (-2147483648 ≤ l2 ∧ l2 < 2147483648) ∧ (∀ (c44 : l2 ≤ x36), W_hRowEnd_70 l2 l3 l4 x36 τ36 Q) ∧ (∀ (c44 : x36 < l2), w_hIs x36 46 τ36 (fun x52 τ52 => ∀ (r52 : x52 = 0 ∨ x52 = 1), (∀ (c55 : x52 = 0), W_hRowEnd_70 l2 l3 l4 x36 τ52 Q) ∧ (∀ (c55 : ¬ x52 = 0), w_hNext (x36 + 1) l2 τ52 (fun x64 τ64 => ∀ (r64 : -2147483648 ≤ x64 ∧ x64 < 2147483648), W_hRowEnd_71 l2 l3 l4 x36 x64 τ64 Q))))))) : W_hRowEnd_27 l2 l3 l4 l5 τ Q := sorry
set_option maxHeartbeats 2000000 in
theorem s_hRowEnd_70 {l2 l3 l4 l6 : Int} {τ : TT} {Q : Int → TT → Prop} (hB : W_hRowEnd_71 l2 l3 l4 l6 l2 τ Q) : W_hRowEnd_70 l2 l3 l4 l6 τ Q := sorry
set_option maxHeartbeats 2000000 in
theorem s_hRowEnd_71 {l2 l3 l4 l6 s0 : Int} {τ : TT} {Q : Int → TT → Prop} (hB : (-2147483648 ≤ l6 ∧ l6 < 2147483648) ∧ (-2147483648 ≤ l2 ∧ l2 < 2147483648) ∧ (∀ (c76 : l2 ≤ l6), W_hRowEnd_105 l2 l3 l4 s0 τ Q) ∧ (∀ (c76 : l6 < l2), w_hIs l6 46 τ (fun x84 τ84 => ∀ (r84 : x84 = 0 ∨ x84 = 1), (∀ (c87 : x84 = 0), W_hRowEnd_105 l2 l3 l4 s0 τ84 Q) ∧ (∀ (c87 : ¬ x84 = 0), w_hIsRowWord s0 l2 l3 τ84 (fun x95 τ95 => ∀ (r95 : x95 = 0 ∨ x95 = 1), (∀ (c98 : x95 = 0), W_hRowEnd_105 l2 l3 l4 s0 τ95 Q) ∧ (∀ (c98 : ¬ x95 = 0), W_hRowEnd_106 l2 l3 l4 s0 1 τ95 Q)))))) : W_hRowEnd_71 l2 l3 l4 l6 s0 τ Q := sorry
set_option maxHeartbeats 2000000 in
theorem s_hRowEnd_105 {l2 l3 l4 l7 : Int} {τ : TT} {Q : Int → TT → Prop} (hB : W_hRowEnd_106 l2 l3 l4 l7 0 τ Q) : W_hRowEnd_105 l2 l3 l4 l7 τ Q := sorry
set_option maxHeartbeats 2000000 in
theorem s_hRowEnd_106 {l2 l3 l4 l7 s0 : Int} {τ : TT} {Q : Int → TT → Prop} (hB : (-2147483648 ≤ s0 ∧ s0 < 2147483648) ∧ (∀ (c110 : s0 = 0), W_hRowEnd_27 l2 l3 l4 s0 τ Q) ∧ (∀ (c110 : ¬ s0 = 0), W_hRowEnd_27 l2 l3 ((l7 + 1)) s0 τ Q)) : W_hRowEnd_106 l2 l3 l4 l7 s0 τ Q := sorry
def w_hIsSpec (l1 l2 : Int) (τ : TT) (Q : Int → TT → Prop) : Prop := Hid (TC yX11_hIsSpec cX11_hIsSpec 6 (some .boolean) 2 (rZ Q) (fun o => [(2, o), (0, l1), (0, l2)]) τ)
def W_hIsSpec_109 (l2 : Int) (τ : TT) (Q : Int → TT → Prop) : Prop := Hid (TJ cX11_hIsSpec 6 (some .boolean) 2 (rZ Q) 109 (fun o => [(2, o), vN, (0, l2), vN, vN, vN]) (fun o => []) τ)
set_option maxHeartbeats 2000000 in
theorem s_hIsSpec {l1 l2 : Int} {τ : TT} {Q : Int → TT → Prop} (hB : w_hRowEnd l1 l2 1 τ (fun x5 τ5 => ∀ (r5 : -2147483648 ≤ x5 ∧ x5 < 2147483648), (-2147483648 ≤ l2 ∧ l2 < 2147483648) ∧ (-2147483648 ≤ l1 ∧ l1 < 2147483648) ∧ (∀ (c21 : ¬ x5 = l1), w_hNext x5 l2 ((τ5.s 139 x5).s 140 l2) (fun x32 τ32 => ∀ (r32 : -2147483648 ≤ x32 ∧ x32 < 2147483648), (∀ (c38 : ¬ x32 = l2), w_hIs x32 64 τ32 (fun x47 τ47 => ∀ (r47 : x47 = 0 ∨ x47 = 1), (∀ (c50 : ¬ x47 = 0), (-2147483648 ≤ (x32 + 1) ∧ (x32 + 1) < 2147483648) ∧ w_hNext (x32 + 1) l2 (τ47.s 140 (x32 + 1)) (fun x68 τ68 => ∀ (r68 : -2147483648 ≤ x68 ∧ x68 < 2147483648), (∀ (c76 : l2 ≤ x68), W_hIsSpec_109 l2 τ68 Q) ∧ (∀ (c76 : x68 < l2), (0 ≤ x68 ∧ x68 < 2001) ∧ ∀ (r85 : -2147483648 ≤ τ68.2 84 x68 ∧ τ68.2 84 x68 < 2147483648), (∀ (c87 : ¬ (τ68.2 84 x68) = 2), W_hIsSpec_109 l2 τ68 Q) ∧ (∀ (c87 : (τ68.2 84 x68) = 2), w_hNext (x68 + 1) l2 τ68 (fun x96 τ96 => ∀ (r96 : -2147483648 ≤ x96 ∧ x96 < 2147483648), (∀ (c100 : ¬ x96 = l2), Q 0 τ96) ∧ (∀ (c100 : x96 = l2), Q 1 τ96)))))) ∧ (∀ (c50 : x47 = 0), Q 0 τ47))) ∧ (∀ (c38 : x32 = l2), Q 1 τ32))) ∧ (∀ (c21 : x5 = l1), Q 0 ((τ5.s 139 x5).s 140 l2)))) : w_hIsSpec l1 l2 τ Q := sorry
set_option maxHeartbeats 2000000 in
theorem s_hIsSpec_109 {l2 : Int} {τ : TT} {Q : Int → TT → Prop} (hB : ∀ (r111 : -2147483648 ≤ τ.1 140 ∧ τ.1 140 < 2147483648), w_hRowEnd (τ.1 140) l2 0 τ (fun x116 τ116 => ∀ (r116 : -2147483648 ≤ x116 ∧ x116 < 2147483648), ∀ (r124 : -2147483648 ≤ τ116.1 140 ∧ τ116.1 140 < 2147483648), (∀ (c127 : x116 ≤ (τ116.1 140)), Q 0 τ116) ∧ (∀ (c127 : (τ116.1 140) < x116), w_hNext x116 l2 τ116 (fun x134 τ134 => ∀ (r134 : -2147483648 ≤ x134 ∧ x134 < 2147483648), (-2147483648 ≤ l2 ∧ l2 < 2147483648) ∧ (∀ (c138 : ¬ x134 = l2), Q 0 τ134) ∧ (∀ (c138 : x134 = l2), Q 1 τ134))))) : W_hIsSpec_109 l2 τ Q := sorry
def w_hMakeComment (l1 l2 : Int) (τ : TT) (Q : TT → Prop) : Prop := Hid (TC yX11_hMakeComment cX11_hMakeComment 5 none 4 (rU Q) (fun o => [(2, o), (0, l1), (0, l2)]) τ)
def W_hMakeComment_12 (l2 l3 l4 : Int) (τ : TT) (Q : TT → Prop) : Prop := Hid (TJ cX11_hMakeComment 5 none 4 (rU Q) 12 (fun o => [(2, o), vN, (0, l2), (0, l3), (0, l4)]) (fun o => []) τ)
def W_hMakeComment_53 (τ : TT) (Q : TT → Prop) : Prop := Hid (TJ cX11_hMakeComment 5 none 4 (rU Q) 53 (fun o => [(2, o), vN, vN, vN, vN]) (fun o => []) τ)
set_option maxHeartbeats 2000000 in
theorem s_hMakeComment {l1 l2 : Int} {τ : TT} {Q : TT → Prop} (hB : w_hNext l1 l2 τ (fun x5 τ5 => ∀ (r5 : -2147483648 ≤ x5 ∧ x5 < 2147483648), W_hMakeComment_12 l2 ((-1)) ((x5 + 1)) τ5 Q)) : w_hMakeComment l1 l2 τ Q := sorry
set_option maxHeartbeats 2000000 in
theorem s_hMakeComment_12 {l2 l3 l4 : Int} {τ : TT} {Q : TT → Prop} (hB : (-2147483648 ≤ l4 ∧ l4 < 2147483648) ∧ (-2147483648 ≤ l2 ∧ l2 < 2147483648) ∧ (∀ (c15 : l2 ≤ l4), w_hBeginPart 0 τ (fun τ39 => (-2147483648 ≤ l3 ∧ l3 < 2147483648) ∧ (∀ (c44 : l3 = (-1)), W_hMakeComment_53  τ39 Q) ∧ (∀ (c44 : ¬ l3 = (-1)), w_hAddWord 0 l3 τ39 (fun τ50 => W_hMakeComment_53  τ50 Q)))) ∧ (∀ (c15 : l4 < l2), (0 ≤ l4 ∧ l4 < 2001) ∧ ∀ (r24 : -2147483648 ≤ τ.2 84 l4 ∧ τ.2 84 l4 < 2147483648), (∀ (c25 : ¬ (τ.2 84 l4) = 0), W_hMakeComment_12 l2 l3 ((l4 + 1)) τ Q) ∧ (∀ (c25 : (τ.2 84 l4) = 0), W_hMakeComment_12 l2 l4 ((l4 + 1)) τ Q))) : W_hMakeComment_12 l2 l3 l4 τ Q := sorry
set_option maxHeartbeats 2000000 in
theorem s_hMakeComment_53 {τ : TT} {Q : TT → Prop} (hB : w_hEndPart 0 τ (fun τ55 => Q τ55)) : W_hMakeComment_53  τ Q := sorry
def w_hMakeWords (l1 l2 l3 : Int) (τ : TT) (Q : TT → Prop) : Prop := Hid (TC yX11_hMakeWords cX11_hMakeWords 5 none 4 (rU Q) (fun o => [(2, o), (0, l1), (0, l2), (0, l3)]) τ)
def W_hMakeWords_13 (l1 l3 l4 : Int) (τ : TT) (Q : TT → Prop) : Prop := Hid (TJ cX11_hMakeWords 5 none 4 (rU Q) 13 (fun o => [(2, o), (0, l1), vN, (0, l3), (0, l4)]) (fun o => []) τ)
def W_hMakeWords_37 (l1 l3 l4 : Int) (τ : TT) (Q : TT → Prop) : Prop := Hid (TJ cX11_hMakeWords 5 none 4 (rU Q) 37 (fun o => [(2, o), (0, l1), vN, (0, l3), (0, l4)]) (fun o => []) τ)
def W_hMakeWords_62 (l1 l3 l4 : Int) (τ : TT) (Q : TT → Prop) : Prop := Hid (TJ cX11_hMakeWords 5 none 4 (rU Q) 62 (fun o => [(2, o), (0, l1), vN, (0, l3), (0, l4)]) (fun o => []) τ)
set_option maxHeartbeats 2000000 in
theorem s_hMakeWords {l1 l2 l3 : Int} {τ : TT} {Q : TT → Prop} (hB : w_hBeginPart l1 τ (fun τ2 => w_hNext l2 l3 τ2 (fun x8 τ8 => ∀ (r8 : -2147483648 ≤ x8 ∧ x8 < 2147483648), W_hMakeWords_13 l1 l3 x8 τ8 Q))) : w_hMakeWords l1 l2 l3 τ Q := sorry
set_option maxHeartbeats 2000000 in
theorem s_hMakeWords_13 {l1 l3 l4 : Int} {τ : TT} {Q : TT → Prop} (hB : (-2147483648 ≤ l4 ∧ l4 < 2147483648) ∧ (-2147483648 ≤ l3 ∧ l3 < 2147483648) ∧ (∀ (c16 : l3 ≤ l4), w_hEndPart l1 τ (fun τ78 => Q τ78)) ∧ (∀ (c16 : l4 < l3), (0 ≤ l4 ∧ l4 < 2001) ∧ ∀ (r25 : -2147483648 ≤ τ.2 84 l4 ∧ τ.2 84 l4 < 2147483648), (∀ (c27 : ¬ (τ.2 84 l4) = 2), W_hMakeWords_37 l1 l3 l4 τ Q) ∧ (∀ (c27 : (τ.2 84 l4) = 2), w_hAdd l1 91 τ (fun τ34 => W_hMakeWords_37 l1 l3 l4 τ34 Q)))) : W_hMakeWords_13 l1 l3 l4 τ Q := sorry
set_option maxHeartbeats 2000000 in
theorem s_hMakeWords_37 {l1 l3 l4 : Int} {τ : TT} {Q : TT → Prop} (hB : w_hAddWord l1 l4 τ (fun τ41 => (0 ≤ l4 ∧ l4 < 2001) ∧ ∀ (r50 : -2147483648 ≤ τ41.2 84 l4 ∧ τ41.2 84 l4 < 2147483648), (∀ (c52 : ¬ (τ41.2 84 l4) = 2), W_hMakeWords_62 l1 l3 l4 τ41 Q) ∧ (∀ (c52 : (τ41.2 84 l4) = 2), w_hAdd l1 93 τ41 (fun τ59 => W_hMakeWords_62 l1 l3 l4 τ59 Q)))) : W_hMakeWords_37 l1 l3 l4 τ Q := sorry
set_option maxHeartbeats 2000000 in
theorem s_hMakeWords_62 {l1 l3 l4 : Int} {τ : TT} {Q : TT → Prop} (hB : w_hNext (l4 + 1) l3 τ (fun x68 τ68 => ∀ (r68 : -2147483648 ≤ x68 ∧ x68 < 2147483648), W_hMakeWords_13 l1 l3 x68 τ68 Q)) : W_hMakeWords_62 l1 l3 l4 τ Q := sorry
def w_hTakeMailbox (l1 l2 l3 l4 : Int) (τ : TT) (Q : TT → Prop) : Prop := Hid (TC yX11_hTakeMailbox cX11_hTakeMailbox 11 none 5 (rU Q) (fun o => [(2, o), (0, l1), (0, l2), (0, l3), (0, l4)]) τ)
def W_hTakeMailbox_14 (l1 l2 l3 l4 l5 : Int) (τ : TT) (Q : TT → Prop) : Prop := Hid (TJ cX11_hTakeMailbox 11 none 5 (rU Q) 14 (fun o => [(2, o), (0, l1), (0, l2), (0, l3), (0, l4), (0, l5), vN, vN, vN, vN, vN]) (fun o => []) τ)
def W_hTakeMailbox_37 (l1 l2 l3 l4 l5 : Int) (τ : TT) (Q : TT → Prop) : Prop := Hid (TJ cX11_hTakeMailbox 11 none 5 (rU Q) 37 (fun o => [(2, o), (0, l1), (0, l2), (0, l3), (0, l4), (0, l5), vN, vN, vN, vN, vN]) (fun o => []) τ)
def W_hTakeMailbox_146 (l1 l2 l4 l5 l6 l7 l8 : Int) (τ : TT) (Q : TT → Prop) : Prop := Hid (TJ cX11_hTakeMailbox 11 none 5 (rU Q) 146 (fun o => [(2, o), (0, l1), (0, l2), vN, (0, l4), (0, l5), (0, l6), (0, l7), (0, l8), vN, vN]) (fun o => []) τ)
def W_hTakeMailbox_71 (l1 l2 l4 l5 l9 : Int) (τ : TT) (Q : TT → Prop) : Prop := Hid (TJ cX11_hTakeMailbox 11 none 5 (rU Q) 71 (fun o => [(2, o), (0, l1), (0, l2), vN, (0, l4), (0, l5), vN, vN, vN, (0, l9), vN]) (fun o => []) τ)
def W_hTakeMailbox_162 (τ : TT) (Q : TT → Prop) : Prop := Hid (TJ cX11_hTakeMailbox 11 none 5 (rU Q) 162 (fun o => [(2, o), vN, vN, vN, vN, vN, vN, vN, vN, vN, vN]) (fun o => []) τ)
def W_hTakeMailbox_214 (l1 l2 l4 l6 l7 l9 l10 : Int) (τ : TT) (Q : TT → Prop) : Prop := Hid (TJ cX11_hTakeMailbox 11 none 5 (rU Q) 214 (fun o => [(2, o), (0, l1), (0, l2), vN, (0, l4), vN, (0, l6), (0, l7), vN, (0, l9), (0, l10)]) (fun o => []) τ)
def W_hTakeMailbox_220 (l4 l6 l7 l9 l10 : Int) (τ : TT) (Q : TT → Prop) : Prop := Hid (TJ cX11_hTakeMailbox 11 none 5 (rU Q) 220 (fun o => [(2, o), vN, vN, vN, (0, l4), vN, (0, l6), (0, l7), vN, (0, l9), (0, l10)]) (fun o => []) τ)
def W_hTakeMailbox_143 (l1 l2 l4 l5 l6 l7 : Int) (τ : TT) (Q : TT → Prop) : Prop := Hid (TJ cX11_hTakeMailbox 11 none 5 (rU Q) 143 (fun o => [(2, o), (0, l1), (0, l2), vN, (0, l4), (0, l5), (0, l6), (0, l7), vN, vN, vN]) (fun o => []) τ)
def W_hTakeMailbox_139 (l1 l2 l4 l5 l6 l7 : Int) (τ : TT) (Q : TT → Prop) : Prop := Hid (TJ cX11_hTakeMailbox 11 none 5 (rU Q) 139 (fun o => [(2, o), (0, l1), (0, l2), vN, (0, l4), (0, l5), (0, l6), (0, l7), vN, vN, vN]) (fun o => []) τ)
def W_hTakeMailbox_144 (l1 l2 l4 l5 l6 l7 s0 : Int) (τ : TT) (Q : TT → Prop) : Prop := Hid (TJ cX11_hTakeMailbox 11 none 5 (rU Q) 144 (fun o => [(2, o), (0, l1), (0, l2), vN, (0, l4), (0, l5), (0, l6), (0, l7), vN, vN, vN]) (fun o => [(0, s0)]) τ)
set_option maxHeartbeats 2000000 in
theorem s_hTakeMailbox {l1 l2 l3 l4 : Int} {τ : TT} {Q : TT → Prop} (hB : w_hNext l1 l2 τ (fun x3 τ3 => ∀ (r3 : -2147483648 ≤ x3 ∧ x3 < 2147483648), (-2147483648 ≤ l2 ∧ l2 < 2147483648) ∧ (∀ (c7 : ¬ x3 = l2), W_hTakeMailbox_14 l1 l2 l3 l4 l1 τ3 Q) ∧ (∀ (c7 : x3 = l2), Q τ3))) : w_hTakeMailbox l1 l2 l3 l4 τ Q := sorry
set_option maxHeartbeats 2000000 in
theorem s_hTakeMailbox_14 {l1 l2 l3 l4 l5 : Int} {τ : TT} {Q : TT → Prop} (hB : (-2147483648 ≤ l5 ∧ l5 < 2147483648) ∧ (-2147483648 ≤ l2 ∧ l2 < 2147483648) ∧ (∀ (c17 : l2 ≤ l5), W_hTakeMailbox_37 l1 l2 l3 l4 l5 τ Q) ∧ (∀ (c17 : l5 < l2), w_hIs l5 60 τ (fun x25 τ25 => ∀ (r25 : x25 = 0 ∨ x25 = 1), (∀ (c28 : ¬ x25 = 0), W_hTakeMailbox_37 l1 l2 l3 l4 l5 τ25 Q) ∧ (∀ (c28 : x25 = 0), W_hTakeMailbox_14 l1 l2 l3 l4 ((l5 + 1)) τ25 Q)))) : W_hTakeMailbox_14 l1 l2 l3 l4 l5 τ Q := sorry
set_option maxHeartbeats 2000000 in
theorem s_hTakeMailbox_37 {l1 l2 l3 l4 l5 : Int} {τ : TT} {Q : TT → Prop} (hB : (-2147483648 ≤ l3 ∧ l3 < 2147483648) ∧ (∀ (c38 : l3 = 0), (-2147483648 ≤ l5 ∧ l5 < 2147483648) ∧ (-2147483648 ≤ l2 ∧ l2 < 2147483648) ∧ (∀ (c64 : l2 ≤ l5), W_hTakeMailbox_146 l1 l2 l4 l5 l1 l2 1 τ Q) ∧ (∀ (c64 : l5 < l2), W_hTakeMailbox_71 l1 l2 l4 l5 l5 τ Q)) ∧ (∀ (c38 : ¬ l3 = 0), ∀ (r43 : -2147483648 ≤ τ.1 134 ∧ τ.1 134 < 2147483648), (-2147483648 ≤ ((τ.1 134) + 1) ∧ ((τ.1 134) + 1) < 2147483648) ∧ Q (τ.s 134 ((τ.1 134) + 1)))) : W_hTakeMailbox_37 l1 l2 l3 l4 l5 τ Q := sorry
set_option maxHeartbeats 2000000 in
theorem s_hTakeMailbox_146 {l1 l2 l4 l5 l6 l7 l8 : Int} {τ : TT} {Q : TT → Prop} (hB : (-2147483648 ≤ l8 ∧ l8 < 2147483648) ∧ (∀ (c148 : l8 = 0), W_hTakeMailbox_162  τ Q) ∧ (∀ (c148 : ¬ l8 = 0), w_hIsSpec l6 l7 τ (fun x156 τ156 => ∀ (r156 : x156 = 0 ∨ x156 = 1), (∀ (c159 : ¬ x156 = 0), ∀ (r174 : -2147483648 ≤ τ156.1 139 ∧ τ156.1 139 < 2147483648), ∀ (r180 : -2147483648 ≤ τ156.1 140 ∧ τ156.1 140 < 2147483648), (-2147483648 ≤ l5 ∧ l5 < 2147483648) ∧ (-2147483648 ≤ l2 ∧ l2 < 2147483648) ∧ (∀ (c188 : l2 ≤ l5), W_hTakeMailbox_214 l1 l2 l4 l6 l7 ((τ156.1 139)) ((τ156.1 140)) τ156 Q) ∧ (∀ (c188 : l5 < l2), w_hNext l1 l5 τ156 (fun x195 τ195 => ∀ (r195 : -2147483648 ≤ x195 ∧ x195 < 2147483648), (∀ (c200 : l5 ≤ x195), W_hTakeMailbox_214 l1 l2 l4 l6 l7 ((τ156.1 139)) ((τ156.1 140)) τ195 Q) ∧ (∀ (c200 : x195 < l5), w_hMakeName 0 l1 l5 τ195 (fun τ208 => W_hTakeMailbox_220 l4 l6 l7 ((τ156.1 139)) ((τ156.1 140)) τ208 Q))))) ∧ (∀ (c159 : x156 = 0), W_hTakeMailbox_162  τ156 Q)))) : W_hTakeMailbox_146 l1 l2 l4 l5 l6 l7 l8 τ Q := sorry
set_option maxHeartbeats 2000000 in
theorem s_hTakeMailbox_71 {l1 l2 l4 l5 l9 : Int} {τ : TT} {Q : TT → Prop} (hB : w_hIs l9 62 τ (fun x76 τ76 => ∀ (r76 : x76 = 0 ∨ x76 = 1), (∀ (c79 : ¬ x76 = 0), w_hBehindRoute (l5 + 1) l9 τ76 (fun x95 τ95 => ∀ (r95 : -2147483648 ≤ x95 ∧ x95 < 2147483648), w_hNext (l9 + 1) l2 τ95 (fun x110 τ110 => ∀ (r110 : -2147483648 ≤ x110 ∧ x110 < 2147483648), (-2147483648 ≤ l2 ∧ l2 < 2147483648) ∧ (∀ (c114 : ¬ x110 = l2), W_hTakeMailbox_143 l1 l2 l4 l5 x95 l9 τ110 Q) ∧ (∀ (c114 : x110 = l2), w_hNext l1 l5 τ110 (fun x121 τ121 => ∀ (r121 : -2147483648 ≤ x121 ∧ x121 < 2147483648), (-2147483648 ≤ l5 ∧ l5 < 2147483648) ∧ (∀ (c126 : x121 = l5), W_hTakeMailbox_139 l1 l2 l4 l5 x95 l9 τ121 Q) ∧ (∀ (c126 : ¬ x121 = l5), w_hIsName l1 l5 τ121 (fun x133 τ133 => ∀ (r133 : x133 = 0 ∨ x133 = 1), (∀ (c136 : x133 = 0), W_hTakeMailbox_143 l1 l2 l4 l5 x95 l9 τ133 Q) ∧ (∀ (c136 : ¬ x133 = 0), W_hTakeMailbox_139 l1 l2 l4 l5 x95 l9 τ133 Q)))))))) ∧ (∀ (c79 : x76 = 0), W_hTakeMailbox_71 l1 l2 l4 l5 ((l9 + 1)) τ76 Q))) : W_hTakeMailbox_71 l1 l2 l4 l5 l9 τ Q := sorry
set_option maxHeartbeats 2000000 in
theorem s_hTakeMailbox_162 {τ : TT} {Q : TT → Prop} (hB : ∀ (r164 : -2147483648 ≤ τ.1 134 ∧ τ.1 134 < 2147483648), (-2147483648 ≤ ((τ.1 134) + 1) ∧ ((τ.1 134) + 1) < 2147483648) ∧ Q (τ.s 134 ((τ.1 134) + 1))) : W_hTakeMailbox_162  τ Q := sorry
set_option maxHeartbeats 2000000 in
theorem s_hTakeMailbox_214 {l1 l2 l4 l6 l7 l9 l10 : Int} {τ : TT} {Q : TT → Prop} (hB : w_hMakeComment l1 l2 τ (fun τ217 => W_hTakeMailbox_220 l4 l6 l7 l9 l10 τ217 Q)) : W_hTakeMailbox_214 l1 l2 l4 l6 l7 l9 l10 τ Q := sorry
set_option maxHeartbeats 2000000 in
theorem s_hTakeMailbox_220 {l4 l6 l7 l9 l10 : Int} {τ : TT} {Q : TT → Prop} (hB : ∀ (r229 : -2147483648 ≤ τ.2 91 1 ∧ τ.2 91 1 < 2147483648), (0 ≤ (τ.2 91 1) ∧ (τ.2 91 1) < 1000) ∧ (-2147483648 ≤ l4 ∧ l4 < 2147483648) ∧ w_hMakeWords 1 l6 l9 (τ.a 94 (τ.2 91 1) l4) (fun τ239 => w_hMakeWords 2 l10 l7 τ239 (fun τ248 => Q τ248))) : W_hTakeMailbox_220 l4 l6 l7 l9 l10 τ Q := sorry
set_option maxHeartbeats 2000000 in
theorem s_hTakeMailbox_143 {l1 l2 l4 l5 l6 l7 : Int} {τ : TT} {Q : TT → Prop} (hB : W_hTakeMailbox_144 l1 l2 l4 l5 l6 l7 0 τ Q) : W_hTakeMailbox_143 l1 l2 l4 l5 l6 l7 τ Q := sorry
set_option maxHeartbeats 2000000 in
theorem s_hTakeMailbox_139 {l1 l2 l4 l5 l6 l7 : Int} {τ : TT} {Q : TT → Prop} (hB : W_hTakeMailbox_144 l1 l2 l4 l5 l6 l7 1 τ Q) : W_hTakeMailbox_139 l1 l2 l4 l5 l6 l7 τ Q := sorry
set_option maxHeartbeats 2000000 in
theorem s_hTakeMailbox_144 {l1 l2 l4 l5 l6 l7 s0 : Int} {τ : TT} {Q : TT → Prop} (hB : W_hTakeMailbox_146 l1 l2 l4 l5 l6 l7 s0 τ Q) : W_hTakeMailbox_144 l1 l2 l4 l5 l6 l7 s0 τ Q := sorry
def w_hAddresses (l1 : Int) (τ : TT) (Q : Int → TT → Prop) : Prop := Hid (TC yX11_hAddresses cX11_hAddresses 9 (some .int) 6 (rI Q) (fun o => [(2, o), (0, l1)]) τ)
def W_hAddresses_33 (l2 l3 l4 l5 : Int) (τ : TT) (Q : Int → TT → Prop) : Prop := Hid (TJ cX11_hAddresses 9 (some .int) 6 (rI Q) 33 (fun o => [(2, o), vN, (0, l2), (0, l3), (0, l4), (0, l5), vN, vN, vN]) (fun o => []) τ)
def W_hAddresses_56 (l2 l3 l4 l5 s0 : Int) (τ : TT) (Q : Int → TT → Prop) : Prop := Hid (TJ cX11_hAddresses 9 (some .int) 6 (rI Q) 56 (fun o => [(2, o), vN, (0, l2), (0, l3), (0, l4), (0, l5), vN, vN, vN]) (fun o => [(0, s0)]) τ)
def W_hAddresses_85 (l2 l3 l4 l5 l6 : Int) (τ : TT) (Q : Int → TT → Prop) : Prop := Hid (TJ cX11_hAddresses 9 (some .int) 6 (rI Q) 85 (fun o => [(2, o), vN, (0, l2), (0, l3), (0, l4), (0, l5), (0, l6), vN, vN]) (fun o => []) τ)
def W_hAddresses_104 (l2 l3 l4 l5 l6 : Int) (τ : TT) (Q : Int → TT → Prop) : Prop := Hid (TJ cX11_hAddresses 9 (some .int) 6 (rI Q) 104 (fun o => [(2, o), vN, (0, l2), (0, l3), (0, l4), (0, l5), (0, l6), vN, vN]) (fun o => []) τ)
def W_hAddresses_129 (l2 l3 l4 l5 l6 : Int) (τ : TT) (Q : Int → TT → Prop) : Prop := Hid (TJ cX11_hAddresses 9 (some .int) 6 (rI Q) 129 (fun o => [(2, o), vN, (0, l2), (0, l3), (0, l4), (0, l5), (0, l6), vN, vN]) (fun o => []) τ)
def W_hAddresses_130 (l2 l3 l4 l5 l6 s0 : Int) (τ : TT) (Q : Int → TT → Prop) : Prop := Hid (TJ cX11_hAddresses 9 (some .int) 6 (rI Q) 130 (fun o => [(2, o), vN, (0, l2), (0, l3), (0, l4), (0, l5), (0, l6), vN, vN]) (fun o => [(0, s0)]) τ)
def W_hAddresses_169 (l2 l3 l4 l5 l6 l7 : Int) (τ : TT) (Q : Int → TT → Prop) : Prop := Hid (TJ cX11_hAddresses 9 (some .int) 6 (rI Q) 169 (fun o => [(2, o), vN, (0, l2), (0, l3), (0, l4), (0, l5), (0, l6), (0, l7), vN]) (fun o => []) τ)
def W_hAddresses_173 (l2 l3 l4 l5 l6 l7 : Int) (τ : TT) (Q : Int → TT → Prop) : Prop := Hid (TJ cX11_hAddresses 9 (some .int) 6 (rI Q) 173 (fun o => [(2, o), vN, (0, l2), (0, l3), (0, l4), (0, l5), (0, l6), (0, l7), vN]) (fun o => []) τ)
def W_hAddresses_174 (l2 l3 l4 l5 l6 l7 s0 : Int) (τ : TT) (Q : Int → TT → Prop) : Prop := Hid (TJ cX11_hAddresses 9 (some .int) 6 (rI Q) 174 (fun o => [(2, o), vN, (0, l2), (0, l3), (0, l4), (0, l5), (0, l6), (0, l7), vN]) (fun o => [(0, s0)]) τ)
def W_hAddresses_208 (l2 l3 l4 l5 l6 l7 : Int) (τ : TT) (Q : Int → TT → Prop) : Prop := Hid (TJ cX11_hAddresses 9 (some .int) 6 (rI Q) 208 (fun o => [(2, o), vN, (0, l2), (0, l3), (0, l4), (0, l5), (0, l6), (0, l7), vN]) (fun o => []) τ)
def W_hAddresses_236 (l2 l4 l5 l6 : Int) (τ : TT) (Q : Int → TT → Prop) : Prop := Hid (TJ cX11_hAddresses 9 (some .int) 6 (rI Q) 236 (fun o => [(2, o), vN, (0, l2), vN, (0, l4), (0, l5), (0, l6), vN, vN]) (fun o => []) τ)
def W_hAddresses_254 (l2 l4 l5 : Int) (τ : TT) (Q : Int → TT → Prop) : Prop := Hid (TJ cX11_hAddresses 9 (some .int) 6 (rI Q) 254 (fun o => [(2, o), vN, (0, l2), vN, (0, l4), (0, l5), vN, vN, vN]) (fun o => []) τ)
set_option maxHeartbeats 2000000 in
theorem s_hAddresses {l1 : Int} {τ : TT} {Q : Int → TT → Prop} (hB : w_hCut l1 0 τ (fun τ3 => w_hForget 0 3 0 τ3 (fun τ10 => W_hAddresses_33 ((-1)) 0 0 0 ((τ10.s 133 0).s 134 0) Q))) : w_hAddresses l1 τ Q := sorry
set_option maxHeartbeats 2000000 in
theorem s_hAddresses_33 {l2 l3 l4 l5 : Int} {τ : TT} {Q : Int → TT → Prop} (hB : ∀ (r36 : -2147483648 ≤ τ.1 121 ∧ τ.1 121 < 2147483648), (-2147483648 ≤ l5 ∧ l5 < 2147483648) ∧ (∀ (c39 : (τ.1 121) < l5), ∀ (r270 : -2147483648 ≤ τ.2 91 1 ∧ τ.2 91 1 < 2147483648), Q (τ.2 91 1) τ) ∧ (∀ (c39 : l5 ≤ (τ.1 121)), (∀ (c48 : ¬ l5 = (τ.1 121)), W_hAddresses_56 l2 l3 l4 l5 0 τ Q) ∧ (∀ (c48 : l5 = (τ.1 121)), W_hAddresses_56 l2 l3 l4 l5 1 τ Q))) : W_hAddresses_33 l2 l3 l4 l5 τ Q := sorry
set_option maxHeartbeats 2000000 in
theorem s_hAddresses_56 {l2 l3 l4 l5 s0 : Int} {τ : TT} {Q : Int → TT → Prop} (hB : (-2147483648 ≤ s0 ∧ s0 < 2147483648) ∧ (∀ (c60 : ¬ s0 = 0), W_hAddresses_85 l2 l3 l4 l5 s0 τ Q) ∧ (∀ (c60 : s0 = 0), w_hIs l5 60 τ (fun x68 τ68 => ∀ (r68 : x68 = 0 ∨ x68 = 1), (∀ (c71 : x68 = 0), W_hAddresses_85 l2 l3 l4 l5 s0 τ68 Q) ∧ (∀ (c71 : ¬ x68 = 0), (-2147483648 ≤ l4 ∧ l4 < 2147483648) ∧ (∀ (c76 : ¬ l4 = 0), W_hAddresses_85 l2 l3 l4 l5 s0 τ68 Q) ∧ (∀ (c76 : l4 = 0), W_hAddresses_104 l2 l3 1 l5 s0 τ68 Q))))) : W_hAddresses_56 l2 l3 l4 l5 s0 τ Q := sorry
set_option maxHeartbeats 2000000 in
theorem s_hAddresses_85 {l2 l3 l4 l5 l6 : Int} {τ : TT} {Q : Int → TT → Prop} (hB : (-2147483648 ≤ l6 ∧ l6 < 2147483648) ∧ (∀ (c87 : ¬ l6 = 0), W_hAddresses_104 l2 l3 l4 l5 l6 τ Q) ∧ (∀ (c87 : l6 = 0), w_hIs l5 62 τ (fun x95 τ95 => ∀ (r95 : x95 = 0 ∨ x95 = 1), (∀ (c98 : x95 = 0), W_hAddresses_104 l2 l3 l4 l5 l6 τ95 Q) ∧ (∀ (c98 : ¬ x95 = 0), W_hAddresses_104 l2 l3 0 l5 l6 τ95 Q)))) : W_hAddresses_85 l2 l3 l4 l5 l6 τ Q := sorry
set_option maxHeartbeats 2000000 in
theorem s_hAddresses_104 {l2 l3 l4 l5 l6 : Int} {τ : TT} {Q : Int → TT → Prop} (hB : (-2147483648 ≤ l6 ∧ l6 < 2147483648) ∧ (∀ (c106 : ¬ l6 = 0), W_hAddresses_129 l2 l3 l4 l5 l6 τ Q) ∧ (∀ (c106 : l6 = 0), (-2147483648 ≤ l4 ∧ l4 < 2147483648) ∧ (∀ (c111 : ¬ l4 = 0), W_hAddresses_129 l2 l3 l4 l5 l6 τ Q) ∧ (∀ (c111 : l4 = 0), w_hIs l5 58 τ (fun x119 τ119 => ∀ (r119 : x119 = 0 ∨ x119 = 1), (∀ (c122 : x119 = 0), W_hAddresses_129 l2 l3 l4 l5 l6 τ119 Q) ∧ (∀ (c122 : ¬ x119 = 0), W_hAddresses_130 l2 l3 l4 l5 l6 1 τ119 Q))))) : W_hAddresses_104 l2 l3 l4 l5 l6 τ Q := sorry
set_option maxHeartbeats 2000000 in
theorem s_hAddresses_129 {l2 l3 l4 l5 l6 : Int} {τ : TT} {Q : Int → TT → Prop} (hB : W_hAddresses_130 l2 l3 l4 l5 l6 0 τ Q) : W_hAddresses_129 l2 l3 l4 l5 l6 τ Q := sorry
set_option maxHeartbeats 2000000 in
theorem s_hAddresses_130 {l2 l3 l4 l5 l6 s0 : Int} {τ : TT} {Q : Int → TT → Prop} (hB : (-2147483648 ≤ l6 ∧ l6 < 2147483648) ∧ (∀ (c134 : ¬ l6 = 0), W_hAddresses_169 l2 l3 l4 l5 l6 s0 τ Q) ∧ (∀ (c134 : l6 = 0), (-2147483648 ≤ l4 ∧ l4 < 2147483648) ∧ (∀ (c139 : ¬ l4 = 0), W_hAddresses_173 l2 l3 l4 l5 l6 s0 τ Q) ∧ (∀ (c139 : l4 = 0), (-2147483648 ≤ s0 ∧ s0 < 2147483648) ∧ (∀ (c144 : ¬ s0 = 0), W_hAddresses_169 l2 l3 l4 l5 l6 s0 τ Q) ∧ (∀ (c144 : s0 = 0), w_hIs l5 44 τ (fun x152 τ152 => ∀ (r152 : x152 = 0 ∨ x152 = 1), (∀ (c155 : ¬ x152 = 0), W_hAddresses_169 l2 l3 l4 l5 l6 s0 τ152 Q) ∧ (∀ (c155 : x152 = 0), w_hIs l5 59 τ152 (fun x163 τ163 => ∀ (r163 : x163 = 0 ∨ x163 = 1), (∀ (c166 : x163 = 0), W_hAddresses_173 l2 l3 l4 l5 l6 s0 τ163 Q) ∧ (∀ (c166 : ¬ x163 = 0), W_hAddresses_169 l2 l3 l4 l5 l6 s0 τ163 Q)))))))) : W_hAddresses_130 l2 l3 l4 l5 l6 s0 τ Q := sorry
set_option maxHeartbeats 2000000 in
theorem s_hAddresses_169 {l2 l3 l4 l5 l6 l7 : Int} {τ : TT} {Q : Int → TT → Prop} (hB : W_hAddresses_174 l2 l3 l4 l5 l6 l7 1 τ Q) : W_hAddresses_169 l2 l3 l4 l5 l6 l7 τ Q := sorry
set_option maxHeartbeats 2000000 in
theorem s_hAddresses_173 {l2 l3 l4 l5 l6 l7 : Int} {τ : TT} {Q : Int → TT → Prop} (hB : W_hAddresses_174 l2 l3 l4 l5 l6 l7 0 τ Q) : W_hAddresses_173 l2 l3 l4 l5 l6 l7 τ Q := sorry
set_option maxHeartbeats 2000000 in
theorem s_hAddresses_174 {l2 l3 l4 l5 l6 l7 s0 : Int} {τ : TT} {Q : Int → TT → Prop} (hB : (-2147483648 ≤ s0 ∧ s0 < 2147483648) ∧ (∀ (c178 : s0 = 0), W_hAddresses_33 l2 l3 l4 ((l5 + 1)) τ Q) ∧ (∀ (c178 : ¬ s0 = 0), (-2147483648 ≤ l7 ∧ l7 < 2147483648) ∧ (∀ (c183 : l7 = 0), W_hAddresses_208 l2 l3 l4 l5 l6 l7 τ Q) ∧ (∀ (c183 : ¬ l7 = 0), (-2147483648 ≤ l2 ∧ l2 < 2147483648) ∧ (∀ (c188 : ¬ l2 = (-1)), W_hAddresses_208 l2 l3 l4 l5 l6 l7 τ Q) ∧ (∀ (c188 : l2 = (-1)), w_hBeginGroup l3 l5 τ (fun τ195 => ∀ (r199 : -2147483648 ≤ τ195.1 133 ∧ τ195.1 133 < 2147483648), W_hAddresses_236 (((τ195.1 133) - 1)) l4 l5 l6 τ195 Q))))) : W_hAddresses_174 l2 l3 l4 l5 l6 l7 s0 τ Q := sorry
set_option maxHeartbeats 2000000 in
theorem s_hAddresses_208 {l2 l3 l4 l5 l6 l7 : Int} {τ : TT} {Q : Int → TT → Prop} (hB : (-2147483648 ≤ l7 ∧ l7 < 2147483648) ∧ (∀ (c210 : l7 = 0), w_hTakeMailbox l3 l5 l4 l2 τ (fun τ233 => W_hAddresses_236 l2 l4 l5 l6 τ233 Q)) ∧ (∀ (c210 : ¬ l7 = 0), ∀ (r215 : -2147483648 ≤ τ.1 134 ∧ τ.1 134 < 2147483648), (-2147483648 ≤ ((τ.1 134) + 1) ∧ ((τ.1 134) + 1) < 2147483648) ∧ W_hAddresses_236 l2 l4 l5 l6 (τ.s 134 ((τ.1 134) + 1)) Q)) : W_hAddresses_208 l2 l3 l4 l5 l6 l7 τ Q := sorry
set_option maxHeartbeats 2000000 in
theorem s_hAddresses_236 {l2 l4 l5 l6 : Int} {τ : TT} {Q : Int → TT → Prop} (hB : (-2147483648 ≤ l6 ∧ l6 < 2147483648) ∧ (∀ (c238 : ¬ l6 = 0), W_hAddresses_254 l2 l4 l5 τ Q) ∧ (∀ (c238 : l6 = 0), w_hIs l5 59 τ (fun x246 τ246 => ∀ (r246 : x246 = 0 ∨ x246 = 1), (∀ (c249 : x246 = 0), W_hAddresses_254 l2 l4 l5 τ246 Q) ∧ (∀ (c249 : ¬ x246 = 0), W_hAddresses_254 ((-1)) l4 l5 τ246 Q)))) : W_hAddresses_236 l2 l4 l5 l6 τ Q := sorry
set_option maxHeartbeats 2000000 in
theorem s_hAddresses_254 {l2 l4 l5 : Int} {τ : TT} {Q : Int → TT → Prop} (hB : W_hAddresses_33 l2 ((l5 + 1)) l4 ((l5 + 1)) τ Q) : W_hAddresses_254 l2 l4 l5 τ Q := sorry
def w_boxes (l1 : Int) (τ : TT) (Q : Int → TT → Prop) : Prop := Hid (TC yX11_boxes cX11_boxes 2 (some .int) 7 (rI Q) (fun o => [(2, o), (2, o + l1)]) τ)
set_option maxHeartbeats 2000000 in
theorem s_boxes {l1 : Int} {τ : TT} {Q : Int → TT → Prop} (hB : w_seek 0 l1 τ (fun x3 τ3 => ∀ (r3 : x3 = 0 ∨ x3 = 1), (∀ (c6 : ¬ x3 = 0), w_takeValue  τ3 (fun τ12 => w_hAddresses 0 τ12 (fun x17 τ17 => ∀ (r17 : -2147483648 ≤ x17 ∧ x17 < 2147483648), Q x17 τ17))) ∧ (∀ (c6 : x3 = 0), Q 0 τ3))) : w_boxes l1 τ Q := sorry
def w_fetch (l1 l2 : Int) (τ : TT) (Q : Int → TT → Prop) : Prop := Hid (TC yX11_fetch cX11_fetch 5 (some .int) 0 (rI Q) (fun o => [(2, o), (0, l1), (0, l2)]) τ)
def W_fetch_16 (l1 l2 l3 l4 : Int) (τ : TT) (Q : Int → TT → Prop) : Prop := Hid (TJ cX11_fetch 5 (some .int) 0 (rI Q) 16 (fun o => [(2, o), (0, l1), (0, l2), (0, l3), (0, l4)]) (fun o => []) τ)
set_option maxHeartbeats 2000000 in
theorem s_fetch {l1 l2 : Int} {τ : TT} {Q : Int → TT → Prop} (hB : (0 ≤ ((1000 * l1) + l2) ∧ ((1000 * l1) + l2) < 7000) ∧ ∀ (r11 : -2147483648 ≤ τ.2 93 ((1000 * l1) + l2) ∧ τ.2 93 ((1000 * l1) + l2) < 2147483648), W_fetch_16 l1 l2 ((τ.2 93 ((1000 * l1) + l2))) 0 τ Q) : w_fetch l1 l2 τ Q := sorry
set_option maxHeartbeats 2000000 in
theorem s_fetch_16 {l1 l2 l3 l4 : Int} {τ : TT} {Q : Int → TT → Prop} (hB : (-2147483648 ≤ l4 ∧ l4 < 2147483648) ∧ (-2147483648 ≤ l3 ∧ l3 < 2147483648) ∧ (∀ (c19 : l3 ≤ l4), Q l3 (τ.s 148 l3)) ∧ (∀ (c19 : l4 < l3), (0 ≤ ((1000 * l1) + l2) ∧ ((1000 * l1) + l2) < 7000) ∧ ∀ (r43 : -2147483648 ≤ τ.2 92 ((1000 * l1) + l2) ∧ τ.2 92 ((1000 * l1) + l2) < 2147483648), (0 ≤ ((τ.2 92 ((1000 * l1) + l2)) + l4) ∧ ((τ.2 92 ((1000 * l1) + l2)) + l4) < 20000) ∧ ∀ (r47 : -2147483648 ≤ τ.2 89 ((τ.2 92 ((1000 * l1) + l2)) + l4) ∧ τ.2 89 ((τ.2 92 ((1000 * l1) + l2)) + l4) < 2147483648), (0 ≤ l4 ∧ l4 < 4200) ∧ W_fetch_16 l1 l2 l3 ((l4 + 1)) (τ.a 100 l4 (((τ.2 89 ((τ.2 92 ((1000 * l1) + l2)) + l4)) + 128) % 256 - 128)) Q)) : W_fetch_16 l1 l2 l3 l4 τ Q := sorry
def w_cTapeAt (l1 : Int) (τ : TT) (Q : Int → TT → Prop) : Prop := Hid (TC yX11_cTapeAt cX11_cTapeAt 2 (some .int) 0 (rI Q) (fun o => [(2, o), (0, l1)]) τ)
set_option maxHeartbeats 2000000 in
theorem s_cTapeAt {l1 : Int} {τ : TT} {Q : Int → TT → Prop} (hB : ∀ (r2 : -2147483648 ≤ τ.1 148 ∧ τ.1 148 < 2147483648), (-2147483648 ≤ l1 ∧ l1 < 2147483648) ∧ (∀ (c5 : (τ.1 148) ≤ l1), Q (-1) τ) ∧ (∀ (c5 : l1 < (τ.1 148)), (0 ≤ l1 ∧ l1 < 4200) ∧ ∀ (r13 : -128 ≤ τ.2 100 l1 ∧ τ.2 100 l1 < 128), Q ((τ.2 100 l1) % 256) τ)) : w_cTapeAt l1 τ Q := sorry
/-! 95.g03.lean.txt -/

set_option maxRecDepth 100000
theorem lf_X11_354_25 : FLk RX11 354 25 142 (.array .long) true := sorry
theorem lf_X11_372_25 : FLk RX11 372 25 143 (.array .long) true := sorry
theorem lf_X11_375_25 : FLk RX11 375 25 144 (.array .int) true := sorry
theorem lm_X11_1692 : VLk RX11 1692 25 yX11_cTapeAt cX11_cTapeAt 2 (some .int) 1 := sorry
theorem lm_X11_991 : VLk RX11 991 25 yX11_cCharsetOf cX11_cCharsetOf 9 (some .int) 2 := sorry
theorem lf_X11_1695_25 : FLk RX11 1695 25 159 .int false := sorry
theorem lf_X11_1698_25 : FLk RX11 1698 25 160 .int false := sorry
theorem lf_X11_1701_25 : FLk RX11 1701 25 161 .int false := sorry
theorem lf_X11_1704_25 : FLk RX11 1704 25 162 .int false := sorry
theorem lf_X11_1637_25 : FLk RX11 1637 25 154 .int false := sorry
theorem lf_X11_394_25 : FLk RX11 394 25 152 (.array .byte) true := sorry
theorem lf_X11_952_25 : FLk RX11 952 25 150 .int false := sorry
theorem lf_X11_388_25 : FLk RX11 388 25 149 (.array .int) true := sorry
theorem lf_X11_1659_25 : FLk RX11 1659 25 158 .int false := sorry
theorem lm_X11_1649 : VLk RX11 1649 25 yX11_cAdd cX11_cAdd 2 none 1 := sorry
theorem lm_X11_1662 : SLk RX11 1662 yX11_cIsLow cX11_cIsLow 1 (some .boolean) 1 := sorry
theorem lm_X11_1666 : VLk RX11 1666 25 yX11_cEndUnits cX11_cEndUnits 1 none 0 := sorry
theorem lm_X11_1669 : SLk RX11 1669 yX11_cIsHigh cX11_cIsHigh 1 (some .boolean) 1 := sorry
theorem lf_X11_1643_25 : FLk RX11 1643 25 155 .int false := sorry
theorem lm_X11_1646 : VLk RX11 1646 25 yX11_cByteOf cX11_cByteOf 2 (some .int) 1 := sorry
theorem lm_X11_1672 : VLk RX11 1672 25 yX11_cUnit cX11_cUnit 2 none 1 := sorry
theorem lm_X11_1675 : VLk RX11 1675 25 yX11_cReadUnits cX11_cReadUnits 4 none 1 := sorry
theorem lm_X11_1652 : SLk RX11 1652 yX11_cMayFollow cX11_cMayFollow 4 (some .boolean) 2 := sorry
theorem lm_X11_1607 : SLk RX11 1607 yX11_cSixBits cX11_cSixBits 1 (some .int) 1 := sorry
theorem lf_X11_382_25 : FLk RX11 382 25 146 (.array .int) true := sorry
theorem lm_X11_1640 : SLk RX11 1640 yX11_cLatin9 cX11_cLatin9 1 (some .int) 1 := sorry
theorem lf_X11_379_25 : FLk RX11 379 25 145 (.array .int) true := sorry
theorem lm_X11_1680 : VLk RX11 1680 25 yX11_cReadMarked cX11_cReadMarked 3 none 0 := sorry
theorem lm_X11_1689 : VLk RX11 1689 25 yX11_cCharOf cX11_cCharOf 3 (some .int) 2 := sorry
theorem lm_X11_1686 : VLk RX11 1686 25 yX11_cTakeUtf7 cX11_cTakeUtf7 4 none 0 := sorry
theorem lm_X11_1683 : VLk RX11 1683 25 yX11_cTakeUtf8 cX11_cTakeUtf8 5 none 0 := sorry
theorem lm_X11_1022 : VLk RX11 1022 25 yX11_cTapeToSrc cX11_cTapeToSrc 4 none 2 := sorry
theorem lm_X11_1025 : VLk RX11 1025 25 yX11_cReadAll cX11_cReadAll 2 none 1 := sorry
theorem lf_X11_391_25 : FLk RX11 391 25 151 (.array .byte) true := sorry
theorem lf_X11_1007_25 : FLk RX11 1007 25 153 .int false := sorry
theorem lf_X11_1601_25 : FLk RX11 1601 25 156 .int false := sorry
theorem lf_X11_1604_25 : FLk RX11 1604 25 157 .int false := sorry
theorem lm_X11_1610 : VLk RX11 1610 25 yX11_cPut cX11_cPut 2 none 1 := sorry
theorem lm_X11_1613 : SLk RX11 1613 yX11_cHex cX11_cHex 1 (some .int) 1 := sorry
theorem lm_X11_1010 : VLk RX11 1010 25 yX11_cUnbase cX11_cUnbase 5 none 2 := sorry
theorem lm_X11_1622 : VLk RX11 1622 25 yX11_cTold cX11_cTold 5 (some .int) 2 := sorry
theorem lm_X11_955 : VLk RX11 955 25 yX11_cReadPlain cX11_cReadPlain 3 none 2 := sorry
theorem lm_X11_1707 : VLk RX11 1707 25 yX11_cIsWord cX11_cIsWord 4 (some .boolean) 1 := sorry
theorem lm_X11_1710 : VLk RX11 1710 25 yX11_cIsBlank cX11_cIsBlank 5 (some .boolean) 2 := sorry
theorem lm_X11_1713 : VLk RX11 1713 25 yX11_cReadWord cX11_cReadWord 3 none 0 := sorry
theorem lm_X11_946 : VLk RX11 946 25 yX11_fetch cX11_fetch 5 (some .int) 2 := sorry
theorem lm_X11_949 : VLk RX11 949 25 yX11_cWords cX11_cWords 4 (some .int) 0 := sorry
theorem lf_X11_958_25 : FLk RX11 958 25 216 .int false := sorry
theorem lf_X11_511_25 : FLk RX11 511 25 215 (.array .int) true := sorry
theorem lm_X11_962 : VLk RX11 962 25 yX11_addCharacter cX11_addCharacter 2 none 1 := sorry
theorem lm_X11_1818 : SLk RX11 1818 yX11_wIsPlain cX11_wIsPlain 1 (some .boolean) 1 := sorry
def w_cCharsetOf (l1 l2 : Int) (τ : TT) (Q : Int → TT → Prop) : Prop := Hid (TC yX11_cCharsetOf cX11_cCharsetOf 9 (some .int) 0 (rI Q) (fun o => [(2, o), (0, l1), (0, l2)]) τ)
def W_cCharsetOf_23 (l1 l2 l3 l5 l7 : Int) (τ : TT) (Q : Int → TT → Prop) : Prop := Hid (TJ cX11_cCharsetOf 9 (some .int) 0 (rI Q) 23 (fun o => [(2, o), (0, l1), (0, l2), (1, l3), vN, (1, l5), vN, (0, l7), vN]) (fun o => []) τ)
def W_cCharsetOf_125 (l3 l5 l7 : Int) (τ : TT) (Q : Int → TT → Prop) : Prop := Hid (TJ cX11_cCharsetOf 9 (some .int) 0 (rI Q) 125 (fun o => [(2, o), vN, vN, (1, l3), vN, (1, l5), vN, (0, l7), vN]) (fun o => []) τ)
def W_cCharsetOf_80 (l1 l2 l3 l5 l7 l8 : Int) (τ : TT) (Q : Int → TT → Prop) : Prop := Hid (TJ cX11_cCharsetOf 9 (some .int) 0 (rI Q) 80 (fun o => [(2, o), (0, l1), (0, l2), (1, l3), vN, (1, l5), vN, (0, l7), (0, l8)]) (fun o => []) τ)
def W_cCharsetOf_82 (l1 l2 l3 l5 l7 s0 : Int) (τ : TT) (Q : Int → TT → Prop) : Prop := Hid (TJ cX11_cCharsetOf 9 (some .int) 0 (rI Q) 82 (fun o => [(2, o), (0, l1), (0, l2), (1, l3), vN, (1, l5), vN, (0, l7), vN]) (fun o => [(0, s0)]) τ)
set_option maxHeartbeats 2000000 in
theorem s_cCharsetOf {l1 l2 : Int} {τ : TT} {Q : Int → TT → Prop} (hB : (-2147483648 ≤ (l2 - l1) ∧ (l2 - l1) < 2147483648) ∧ (∀ (c5 : 16 < (l2 - l1)), Q (-1) τ) ∧ (∀ (c5 : (l2 - l1) ≤ 16), (-2147483648 ≤ l2 ∧ l2 < 2147483648) ∧ (-2147483648 ≤ l1 ∧ l1 < 2147483648) ∧ (∀ (c10 : ¬ l2 = l1), W_cCharsetOf_23 l1 l2 0 0 l1 τ Q) ∧ (∀ (c10 : l2 = l1), Q (-1) τ))) : w_cCharsetOf l1 l2 τ Q := sorry
set_option maxHeartbeats 2000000 in
theorem s_cCharsetOf_23 {l1 l2 l3 l5 l7 : Int} {τ : TT} {Q : Int → TT → Prop} (hB : (-2147483648 ≤ l7 ∧ l7 < 2147483648) ∧ (-2147483648 ≤ l2 ∧ l2 < 2147483648) ∧ (∀ (c26 : l2 ≤ l7), W_cCharsetOf_125 l3 l5 0 τ Q) ∧ (∀ (c26 : l7 < l2), (0 ≤ l7 ∧ l7 < 4200) ∧ ∀ (r35 : -128 ≤ τ.2 100 l7 ∧ τ.2 100 l7 < 128), (∀ (c46 : ((τ.2 100 l7) % 256) < 33), Q (-1) τ) ∧ (∀ (c46 : 33 ≤ ((τ.2 100 l7) % 256)), (∀ (c53 : ((τ.2 100 l7) % 256) ≤ 126), (∀ (c62 : ((τ.2 100 l7) % 256) < 65), W_cCharsetOf_80 l1 l2 l3 l5 l7 (((τ.2 100 l7) % 256)) τ Q) ∧ (∀ (c62 : 65 ≤ ((τ.2 100 l7) % 256)), (∀ (c69 : 90 < ((τ.2 100 l7) % 256)), W_cCharsetOf_80 l1 l2 l3 l5 l7 (((τ.2 100 l7) % 256)) τ Q) ∧ (∀ (c69 : ((τ.2 100 l7) % 256) ≤ 90), W_cCharsetOf_82 l1 l2 l3 l5 l7 ((((τ.2 100 l7) % 256) + 32)) τ Q))) ∧ (∀ (c53 : 126 < ((τ.2 100 l7) % 256)), Q (-1) τ)))) : W_cCharsetOf_23 l1 l2 l3 l5 l7 τ Q := sorry
set_option maxHeartbeats 2000000 in
theorem s_cCharsetOf_125 {l3 l5 l7 : Int} {τ : TT} {Q : Int → TT → Prop} (hB : (-2147483648 ≤ l7 ∧ l7 < 2147483648) ∧ (∀ (c129 : 27 ≤ l7), Q (-1) τ) ∧ (∀ (c129 : l7 < 27), (0 ≤ l7 ∧ l7 < 27) ∧ ∀ (r138 : -9223372036854775808 ≤ τ.2 95 l7 ∧ τ.2 95 l7 < 9223372036854775808), ∀ (kr138 : τ.2 95 l7 = cl_cNameHead.getD (l7).toNat 0), (-9223372036854775808 ≤ l3 ∧ l3 < 9223372036854775808) ∧ (∀ (c141 : ¬ (τ.2 95 l7) = l3), W_cCharsetOf_125 l3 l5 ((l7 + 1)) τ Q) ∧ (∀ (c141 : (τ.2 95 l7) = l3), ∀ (r150 : -9223372036854775808 ≤ τ.2 96 l7 ∧ τ.2 96 l7 < 9223372036854775808), ∀ (kr150 : τ.2 96 l7 = cl_cNameTail.getD (l7).toNat 0), (-9223372036854775808 ≤ l5 ∧ l5 < 9223372036854775808) ∧ (∀ (c154 : ¬ (τ.2 96 l7) = l5), W_cCharsetOf_125 l3 l5 ((l7 + 1)) τ Q) ∧ (∀ (c154 : (τ.2 96 l7) = l5), ∀ (r163 : -2147483648 ≤ τ.2 97 l7 ∧ τ.2 97 l7 < 2147483648), ∀ (kr163 : τ.2 97 l7 = cl_cNameOf.getD (l7).toNat 0), Q (τ.2 97 l7) τ)))) : W_cCharsetOf_125 l3 l5 l7 τ Q := sorry
set_option maxHeartbeats 2000000 in
theorem s_cCharsetOf_80 {l1 l2 l3 l5 l7 l8 : Int} {τ : TT} {Q : Int → TT → Prop} (hB : W_cCharsetOf_82 l1 l2 l3 l5 l7 l8 τ Q) : W_cCharsetOf_80 l1 l2 l3 l5 l7 l8 τ Q := sorry
set_option maxHeartbeats 2000000 in
theorem s_cCharsetOf_82 {l1 l2 l3 l5 l7 s0 : Int} {τ : TT} {Q : Int → TT → Prop} (hB : (-2147483648 ≤ (l7 - l1) ∧ (l7 - l1) < 2147483648) ∧ (∀ (c90 : 8 ≤ (l7 - l1)), (-2147483648 ≤ s0 ∧ s0 < 2147483648) ∧ W_cCharsetOf_23 l1 l2 l3 ((orL (shlL l5 8) s0)) ((l7 + 1)) τ Q) ∧ (∀ (c90 : (l7 - l1) < 8), (-2147483648 ≤ s0 ∧ s0 < 2147483648) ∧ W_cCharsetOf_23 l1 l2 ((orL (shlL l3 8) s0)) l5 ((l7 + 1)) τ Q)) : W_cCharsetOf_82 l1 l2 l3 l5 l7 s0 τ Q := sorry
def w_cIsWord (l1 : Int) (τ : TT) (Q : Int → TT → Prop) : Prop := Hid (TC yX11_cIsWord cX11_cIsWord 4 (some .boolean) 1 (rZ Q) (fun o => [(2, o), (0, l1)]) τ)
def W_cIsWord_28 (l1 l2 : Int) (τ : TT) (Q : Int → TT → Prop) : Prop := Hid (TJ cX11_cIsWord 4 (some .boolean) 1 (rZ Q) 28 (fun o => [(2, o), (0, l1), (0, l2), vN]) (fun o => []) τ)
def W_cIsWord_63 (l1 l2 : Int) (τ : TT) (Q : Int → TT → Prop) : Prop := Hid (TJ cX11_cIsWord 4 (some .boolean) 1 (rZ Q) 63 (fun o => [(2, o), (0, l1), (0, l2), vN]) (fun o => []) τ)
def W_cIsWord_84 (l2 s0 s1 : Int) (τ : TT) (Q : Int → TT → Prop) : Prop := Hid (TJ cX11_cIsWord 4 (some .boolean) 1 (rZ Q) 84 (fun o => [(2, o), vN, (0, l2), vN]) (fun o => [(0, s0), (0, s1), (2, o), (2, o)]) τ)
def W_cIsWord_90 (l2 : Int) (τ : TT) (Q : Int → TT → Prop) : Prop := Hid (TJ cX11_cIsWord 4 (some .boolean) 1 (rZ Q) 90 (fun o => [(2, o), vN, (0, l2), vN]) (fun o => []) τ)
def W_cIsWord_115 (l2 : Int) (τ : TT) (Q : Int → TT → Prop) : Prop := Hid (TJ cX11_cIsWord 4 (some .boolean) 1 (rZ Q) 115 (fun o => [(2, o), vN, (0, l2), vN]) (fun o => []) τ)
def W_cIsWord_136 (l2 : Int) (τ : TT) (Q : Int → TT → Prop) : Prop := Hid (TJ cX11_cIsWord 4 (some .boolean) 1 (rZ Q) 136 (fun o => [(2, o), vN, (0, l2), vN]) (fun o => [(2, o)]) τ)
def W_cIsWord_153 (l2 : Int) (τ : TT) (Q : Int → TT → Prop) : Prop := Hid (TJ cX11_cIsWord 4 (some .boolean) 1 (rZ Q) 153 (fun o => [(2, o), vN, (0, l2), vN]) (fun o => [(2, o)]) τ)
def W_cIsWord_159 (l2 s0 : Int) (τ : TT) (Q : Int → TT → Prop) : Prop := Hid (TJ cX11_cIsWord 4 (some .boolean) 1 (rZ Q) 159 (fun o => [(2, o), vN, (0, l2), vN]) (fun o => [(0, s0), (2, o)]) τ)
def W_cIsWord_216 (τ : TT) (Q : Int → TT → Prop) : Prop := Hid (TJ cX11_cIsWord 4 (some .boolean) 1 (rZ Q) 216 (fun o => [(2, o), vN, vN, vN]) (fun o => []) τ)
def W_cIsWord_280 (τ : TT) (Q : Int → TT → Prop) : Prop := Hid (TJ cX11_cIsWord 4 (some .boolean) 1 (rZ Q) 280 (fun o => [(2, o), vN, vN, vN]) (fun o => []) τ)
set_option maxHeartbeats 2000000 in
theorem s_cIsWord {l1 : Int} {τ : TT} {Q : Int → TT → Prop} (hB : w_cTapeAt l1 τ (fun x2 τ2 => ∀ (r2 : -2147483648 ≤ x2 ∧ x2 < 2147483648), (∀ (c7 : ¬ x2 = 61), Q 0 τ2) ∧ (∀ (c7 : x2 = 61), w_cTapeAt (l1 + 1) τ2 (fun x14 τ14 => ∀ (r14 : -2147483648 ≤ x14 ∧ x14 < 2147483648), (∀ (c19 : x14 = 63), W_cIsWord_28 l1 ((l1 + 2)) τ14 Q) ∧ (∀ (c19 : ¬ x14 = 63), Q 0 τ14))))) : w_cIsWord l1 τ Q := sorry
set_option maxHeartbeats 2000000 in
theorem s_cIsWord_28 {l1 l2 : Int} {τ : TT} {Q : Int → TT → Prop} (hB : w_cTapeAt l2 τ (fun x30 τ30 => ∀ (r30 : -2147483648 ≤ x30 ∧ x30 < 2147483648), (∀ (c34 : x30 = (-1)), W_cIsWord_63 l1 l2 τ30 Q) ∧ (∀ (c34 : ¬ x30 = (-1)), w_cTapeAt l2 τ30 (fun x39 τ39 => ∀ (r39 : -2147483648 ≤ x39 ∧ x39 < 2147483648), (∀ (c44 : x39 = 63), W_cIsWord_63 l1 l2 τ39 Q) ∧ (∀ (c44 : ¬ x39 = 63), w_cTapeAt l2 τ39 (fun x49 τ49 => ∀ (r49 : -2147483648 ≤ x49 ∧ x49 < 2147483648), (∀ (c54 : x49 = 42), W_cIsWord_63 l1 l2 τ49 Q) ∧ (∀ (c54 : ¬ x49 = 42), W_cIsWord_28 l1 ((l2 + 1)) τ49 Q))))))) : W_cIsWord_28 l1 l2 τ Q := sorry
set_option maxHeartbeats 2000000 in
theorem s_cIsWord_63 {l1 l2 : Int} {τ : TT} {Q : Int → TT → Prop} (hB : ∀ (r70 : -2147483648 ≤ τ.1 148 ∧ τ.1 148 < 2147483648), (-2147483648 ≤ l2 ∧ l2 < 2147483648) ∧ (∀ (c73 : (τ.1 148) ≤ l2), W_cIsWord_84 l2 ((τ.1 148)) ((l1 + 2)) τ Q) ∧ (∀ (c73 : l2 < (τ.1 148)), W_cIsWord_84 l2 l2 ((l1 + 2)) τ Q)) : W_cIsWord_63 l1 l2 τ Q := sorry
set_option maxHeartbeats 2000000 in
theorem s_cIsWord_84 {l2 s0 s1 : Int} {τ : TT} {Q : Int → TT → Prop} (hB : w_cCharsetOf s1 s0 τ (fun x84 τ84 => ∀ (r84 : -2147483648 ≤ x84 ∧ x84 < 2147483648), W_cIsWord_90 l2 (τ84.s 159 x84) Q)) : W_cIsWord_84 l2 s0 s1 τ Q := sorry
set_option maxHeartbeats 2000000 in
theorem s_cIsWord_90 {l2 : Int} {τ : TT} {Q : Int → TT → Prop} (hB : w_cTapeAt l2 τ (fun x92 τ92 => ∀ (r92 : -2147483648 ≤ x92 ∧ x92 < 2147483648), (∀ (c96 : x92 = (-1)), W_cIsWord_115 l2 τ92 Q) ∧ (∀ (c96 : ¬ x92 = (-1)), w_cTapeAt l2 τ92 (fun x101 τ101 => ∀ (r101 : -2147483648 ≤ x101 ∧ x101 < 2147483648), (∀ (c106 : x101 = 63), W_cIsWord_115 l2 τ101 Q) ∧ (∀ (c106 : ¬ x101 = 63), W_cIsWord_90 ((l2 + 1)) τ101 Q))))) : W_cIsWord_90 l2 τ Q := sorry
set_option maxHeartbeats 2000000 in
theorem s_cIsWord_115 {l2 : Int} {τ : TT} {Q : Int → TT → Prop} (hB : w_cTapeAt (l2 + 1) τ (fun x119 τ119 => ∀ (r119 : -2147483648 ≤ x119 ∧ x119 < 2147483648), (∀ (c127 : x119 = 113), W_cIsWord_136 l2 τ119 Q) ∧ (∀ (c127 : ¬ x119 = 113), (∀ (c133 : ¬ x119 = 81), (∀ (c144 : x119 = 98), W_cIsWord_153 l2 τ119 Q) ∧ (∀ (c144 : ¬ x119 = 98), (∀ (c150 : ¬ x119 = 66), W_cIsWord_159 l2 ((-1)) τ119 Q) ∧ (∀ (c150 : x119 = 66), W_cIsWord_153 l2 τ119 Q))) ∧ (∀ (c133 : x119 = 81), W_cIsWord_136 l2 τ119 Q)))) : W_cIsWord_115 l2 τ Q := sorry
set_option maxHeartbeats 2000000 in
theorem s_cIsWord_136 {l2 : Int} {τ : TT} {Q : Int → TT → Prop} (hB : W_cIsWord_159 l2 81 τ Q) : W_cIsWord_136 l2 τ Q := sorry
set_option maxHeartbeats 2000000 in
theorem s_cIsWord_153 {l2 : Int} {τ : TT} {Q : Int → TT → Prop} (hB : W_cIsWord_159 l2 66 τ Q) : W_cIsWord_153 l2 τ Q := sorry
set_option maxHeartbeats 2000000 in
theorem s_cIsWord_159 {l2 s0 : Int} {τ : TT} {Q : Int → TT → Prop} (hB : (-2147483648 ≤ s0 ∧ s0 < 2147483648) ∧ ∀ (r163 : -2147483648 ≤ τ.1 159 ∧ τ.1 159 < 2147483648), (∀ (c167 : (τ.1 159) = (-1)), Q 0 (τ.s 160 s0)) ∧ (∀ (c167 : ¬ (τ.1 159) = (-1)), (∀ (c175 : s0 = (-1)), Q 0 (τ.s 160 s0)) ∧ (∀ (c175 : ¬ s0 = (-1)), w_cTapeAt l2 (τ.s 160 s0) (fun x180 τ180 => ∀ (r180 : -2147483648 ≤ x180 ∧ x180 < 2147483648), (∀ (c185 : ¬ x180 = 63), Q 0 τ180) ∧ (∀ (c185 : x180 = 63), w_cTapeAt (l2 + 2) τ180 (fun x192 τ192 => ∀ (r192 : -2147483648 ≤ x192 ∧ x192 < 2147483648), (∀ (c197 : x192 = 63), (-2147483648 ≤ (l2 + 3) ∧ (l2 + 3) < 2147483648) ∧ W_cIsWord_216  ((τ192.s 161 (l2 + 3)).s 162 (l2 + 3)) Q) ∧ (∀ (c197 : ¬ x192 = 63), Q 0 τ192))))))) : W_cIsWord_159 l2 s0 τ Q := sorry
set_option maxHeartbeats 2000000 in
theorem s_cIsWord_216 {τ : TT} {Q : Int → TT → Prop} (hB : ∀ (r218 : -2147483648 ≤ τ.1 162 ∧ τ.1 162 < 2147483648), w_cTapeAt (τ.1 162) τ (fun x221 τ221 => ∀ (r221 : -2147483648 ≤ x221 ∧ x221 < 2147483648), (∀ (c225 : x221 = (-1)), W_cIsWord_280  τ221 Q) ∧ (∀ (c225 : ¬ x221 = (-1)), ∀ (r230 : -2147483648 ≤ τ221.1 162 ∧ τ221.1 162 < 2147483648), w_cTapeAt (τ221.1 162) τ221 (fun x233 τ233 => ∀ (r233 : -2147483648 ≤ x233 ∧ x233 < 2147483648), (∀ (c238 : x233 = 63), W_cIsWord_280  τ233 Q) ∧ (∀ (c238 : ¬ x233 = 63), ∀ (r243 : -2147483648 ≤ τ233.1 162 ∧ τ233.1 162 < 2147483648), w_cTapeAt (τ233.1 162) τ233 (fun x246 τ246 => ∀ (r246 : -2147483648 ≤ x246 ∧ x246 < 2147483648), (∀ (c251 : x246 = 32), W_cIsWord_280  τ246 Q) ∧ (∀ (c251 : ¬ x246 = 32), ∀ (r256 : -2147483648 ≤ τ246.1 162 ∧ τ246.1 162 < 2147483648), w_cTapeAt (τ246.1 162) τ246 (fun x259 τ259 => ∀ (r259 : -2147483648 ≤ x259 ∧ x259 < 2147483648), (∀ (c264 : x259 = 9), W_cIsWord_280  τ259 Q) ∧ (∀ (c264 : ¬ x259 = 9), ∀ (r269 : -2147483648 ≤ τ259.1 162 ∧ τ259.1 162 < 2147483648), (-2147483648 ≤ ((τ259.1 162) + 1) ∧ ((τ259.1 162) + 1) < 2147483648) ∧ W_cIsWord_216  (τ259.s 162 ((τ259.1 162) + 1)) Q))))))))) : W_cIsWord_216  τ Q := sorry
set_option maxHeartbeats 2000000 in
theorem s_cIsWord_280 {τ : TT} {Q : Int → TT → Prop} (hB : ∀ (r282 : -2147483648 ≤ τ.1 162 ∧ τ.1 162 < 2147483648), w_cTapeAt (τ.1 162) τ (fun x285 τ285 => ∀ (r285 : -2147483648 ≤ x285 ∧ x285 < 2147483648), (∀ (c290 : ¬ x285 = 63), Q 0 τ285) ∧ (∀ (c290 : x285 = 63), ∀ (r295 : -2147483648 ≤ τ285.1 162 ∧ τ285.1 162 < 2147483648), w_cTapeAt ((τ285.1 162) + 1) τ285 (fun x300 τ300 => ∀ (r300 : -2147483648 ≤ x300 ∧ x300 < 2147483648), (∀ (c305 : ¬ x300 = 61), Q 0 τ300) ∧ (∀ (c305 : x300 = 61), Q 1 τ300))))) : W_cIsWord_280  τ Q := sorry
def w_cIsBlank (l1 l2 : Int) (τ : TT) (Q : Int → TT → Prop) : Prop := Hid (TC yX11_cIsBlank cX11_cIsBlank 5 (some .boolean) 0 (rZ Q) (fun o => [(2, o), (0, l1), (0, l2)]) τ)
def W_cIsBlank_5 (l2 l3 l4 : Int) (τ : TT) (Q : Int → TT → Prop) : Prop := Hid (TJ cX11_cIsBlank 5 (some .boolean) 0 (rZ Q) 5 (fun o => [(2, o), vN, (0, l2), (0, l3), (0, l4)]) (fun o => []) τ)
def W_cIsBlank_67 (l2 l4 : Int) (τ : TT) (Q : Int → TT → Prop) : Prop := Hid (TJ cX11_cIsBlank 5 (some .boolean) 0 (rZ Q) 67 (fun o => [(2, o), vN, (0, l2), vN, (0, l4)]) (fun o => []) τ)
def W_cIsBlank_63 (l2 l4 : Int) (τ : TT) (Q : Int → TT → Prop) : Prop := Hid (TJ cX11_cIsBlank 5 (some .boolean) 0 (rZ Q) 63 (fun o => [(2, o), vN, (0, l2), vN, (0, l4)]) (fun o => []) τ)
set_option maxHeartbeats 2000000 in
theorem s_cIsBlank {l1 l2 : Int} {τ : TT} {Q : Int → TT → Prop} (hB : W_cIsBlank_5 l2 1 l1 τ Q) : w_cIsBlank l1 l2 τ Q := sorry
set_option maxHeartbeats 2000000 in
theorem s_cIsBlank_5 {l2 l3 l4 : Int} {τ : TT} {Q : Int → TT → Prop} (hB : (-2147483648 ≤ l4 ∧ l4 < 2147483648) ∧ (-2147483648 ≤ l2 ∧ l2 < 2147483648) ∧ (∀ (c8 : l2 ≤ l4), (l3 = 0 ∨ l3 = 1) ∧ Q l3 τ) ∧ (∀ (c8 : l4 < l2), (-2147483648 ≤ l3 ∧ l3 < 2147483648) ∧ (∀ (c12 : l3 = 0), W_cIsBlank_67 l2 l4 τ Q) ∧ (∀ (c12 : ¬ l3 = 0), (0 ≤ l4 ∧ l4 < 4200) ∧ ∀ (r21 : -128 ≤ τ.2 100 l4 ∧ τ.2 100 l4 < 128), (∀ (c24 : (τ.2 100 l4) = 32), W_cIsBlank_63 l2 l4 τ Q) ∧ (∀ (c24 : ¬ (τ.2 100 l4) = 32), ∀ (r33 : -128 ≤ τ.2 100 l4 ∧ τ.2 100 l4 < 128), (∀ (c36 : (τ.2 100 l4) = 9), W_cIsBlank_63 l2 l4 τ Q) ∧ (∀ (c36 : ¬ (τ.2 100 l4) = 9), ∀ (r45 : -128 ≤ τ.2 100 l4 ∧ τ.2 100 l4 < 128), (∀ (c48 : (τ.2 100 l4) = 13), W_cIsBlank_63 l2 l4 τ Q) ∧ (∀ (c48 : ¬ (τ.2 100 l4) = 13), ∀ (r57 : -128 ≤ τ.2 100 l4 ∧ τ.2 100 l4 < 128), (∀ (c60 : ¬ (τ.2 100 l4) = 10), W_cIsBlank_67 l2 l4 τ Q) ∧ (∀ (c60 : (τ.2 100 l4) = 10), W_cIsBlank_63 l2 l4 τ Q))))))) : W_cIsBlank_5 l2 l3 l4 τ Q := sorry
set_option maxHeartbeats 2000000 in
theorem s_cIsBlank_67 {l2 l4 : Int} {τ : TT} {Q : Int → TT → Prop} (hB : W_cIsBlank_5 l2 0 ((l4 + 1)) τ Q) : W_cIsBlank_67 l2 l4 τ Q := sorry
set_option maxHeartbeats 2000000 in
theorem s_cIsBlank_63 {l2 l4 : Int} {τ : TT} {Q : Int → TT → Prop} (hB : W_cIsBlank_5 l2 1 ((l4 + 1)) τ Q) : W_cIsBlank_63 l2 l4 τ Q := sorry
def w_cTapeToSrc (l1 l2 : Int) (τ : TT) (Q : TT → Prop) : Prop := Hid (TC yX11_cTapeToSrc cX11_cTapeToSrc 4 none 0 (rU Q) (fun o => [(2, o), (0, l1), (0, l2)]) τ)
def W_cTapeToSrc_9 (l1 l3 : Int) (τ : TT) (Q : TT → Prop) : Prop := Hid (TJ cX11_cTapeToSrc 4 none 0 (rU Q) 9 (fun o => [(2, o), (0, l1), vN, (0, l3)]) (fun o => []) τ)
set_option maxHeartbeats 2000000 in
theorem s_cTapeToSrc {l1 l2 : Int} {τ : TT} {Q : TT → Prop} (hB : (-2147483648 ≤ (l2 - l1) ∧ (l2 - l1) < 2147483648) ∧ W_cTapeToSrc_9 l1 0 (τ.s 154 (l2 - l1)) Q) : w_cTapeToSrc l1 l2 τ Q := sorry
set_option maxHeartbeats 2000000 in
theorem s_cTapeToSrc_9 {l1 l3 : Int} {τ : TT} {Q : TT → Prop} (hB : ∀ (r11 : -2147483648 ≤ τ.1 154 ∧ τ.1 154 < 2147483648), (-2147483648 ≤ l3 ∧ l3 < 2147483648) ∧ (∀ (c14 : (τ.1 154) ≤ l3), Q τ) ∧ (∀ (c14 : l3 < (τ.1 154)), (0 ≤ (l1 + l3) ∧ (l1 + l3) < 4200) ∧ ∀ (r29 : -128 ≤ τ.2 100 (l1 + l3) ∧ τ.2 100 (l1 + l3) < 128), (0 ≤ l3 ∧ l3 < 4200) ∧ W_cTapeToSrc_9 l1 ((l3 + 1)) (τ.a 103 l3 (τ.2 100 (l1 + l3))) Q)) : W_cTapeToSrc_9 l1 l3 τ Q := sorry
def w_cByteOf (l1 : Int) (τ : TT) (Q : Int → TT → Prop) : Prop := Hid (TC yX11_cByteOf cX11_cByteOf 2 (some .int) 0 (rI Q) (fun o => [(2, o), (0, l1)]) τ)
set_option maxHeartbeats 2000000 in
theorem s_cByteOf {l1 : Int} {τ : TT} {Q : Int → TT → Prop} (hB : ∀ (r2 : -2147483648 ≤ τ.1 154 ∧ τ.1 154 < 2147483648), (-2147483648 ≤ l1 ∧ l1 < 2147483648) ∧ (∀ (c5 : (τ.1 154) ≤ l1), Q (-1) τ) ∧ (∀ (c5 : l1 < (τ.1 154)), (0 ≤ l1 ∧ l1 < 4200) ∧ ∀ (r13 : -128 ≤ τ.2 103 l1 ∧ τ.2 103 l1 < 128), Q ((τ.2 103 l1) % 256) τ)) : w_cByteOf l1 τ Q := sorry
def w_cIsLow (l0 : Int) (τ : TT) (Q : Int → TT → Prop) : Prop := Hid (TC yX11_cIsLow cX11_cIsLow 1 (some .boolean) 0 (rZ Q) (fun o => [(0, l0)]) τ)
set_option maxHeartbeats 2000000 in
theorem s_cIsLow {l0 : Int} {τ : TT} {Q : Int → TT → Prop} (hB : (-2147483648 ≤ l0 ∧ l0 < 2147483648) ∧ (∀ (c4 : l0 < 56320), Q 0 τ) ∧ (∀ (c4 : 56320 ≤ l0), (∀ (c11 : 57343 < l0), Q 0 τ) ∧ (∀ (c11 : l0 ≤ 57343), Q 1 τ))) : w_cIsLow l0 τ Q := sorry
def w_cAdd (l1 : Int) (τ : TT) (Q : TT → Prop) : Prop := Hid (TC yX11_cAdd cX11_cAdd 2 none 0 (rU Q) (fun o => [(2, o), (0, l1)]) τ)
set_option maxHeartbeats 2000000 in
theorem s_cAdd {l1 : Int} {τ : TT} {Q : TT → Prop} (hB : ∀ (r1 : -2147483648 ≤ τ.1 150 ∧ τ.1 150 < 2147483648), (∀ (c7 : 4200 ≤ (τ.1 150)), Q τ) ∧ (∀ (c7 : (τ.1 150) < 4200), (0 ≤ (τ.1 150) ∧ (τ.1 150) < 4200) ∧ (-2147483648 ≤ l1 ∧ l1 < 2147483648) ∧ (-2147483648 ≤ ((τ.1 150) + 1) ∧ ((τ.1 150) + 1) < 2147483648) ∧ Q ((τ.a 101 (τ.1 150) l1).s 150 ((τ.1 150) + 1)))) : w_cAdd l1 τ Q := sorry
def w_cEndUnits (τ : TT) (Q : TT → Prop) : Prop := Hid (TC yX11_cEndUnits cX11_cEndUnits 1 none 1 (rU Q) (fun o => [(2, o)]) τ)
set_option maxHeartbeats 2000000 in
theorem s_cEndUnits {τ : TT} {Q : TT → Prop} (hB : ∀ (r1 : -2147483648 ≤ τ.1 158 ∧ τ.1 158 < 2147483648), (∀ (c4 : (τ.1 158) ≤ 0), Q (τ.s 158 0)) ∧ (∀ (c4 : 0 < (τ.1 158)), w_cAdd 65533 τ (fun τ11 => Q (τ11.s 158 0)))) : w_cEndUnits  τ Q := sorry
def w_cIsHigh (l0 : Int) (τ : TT) (Q : Int → TT → Prop) : Prop := Hid (TC yX11_cIsHigh cX11_cIsHigh 1 (some .boolean) 0 (rZ Q) (fun o => [(0, l0)]) τ)
set_option maxHeartbeats 2000000 in
theorem s_cIsHigh {l0 : Int} {τ : TT} {Q : Int → TT → Prop} (hB : (-2147483648 ≤ l0 ∧ l0 < 2147483648) ∧ (∀ (c4 : l0 < 55296), Q 0 τ) ∧ (∀ (c4 : 55296 ≤ l0), (∀ (c11 : 56319 < l0), Q 0 τ) ∧ (∀ (c11 : l0 ≤ 56319), Q 1 τ))) : w_cIsHigh l0 τ Q := sorry
def w_cUnit (l1 : Int) (τ : TT) (Q : TT → Prop) : Prop := Hid (TC yX11_cUnit cX11_cUnit 2 none 2 (rU Q) (fun o => [(2, o), (0, l1)]) τ)
def W_cUnit_45 (l1 : Int) (τ : TT) (Q : TT → Prop) : Prop := Hid (TJ cX11_cUnit 2 none 2 (rU Q) 45 (fun o => [(2, o), (0, l1)]) (fun o => []) τ)
def W_cUnit_79 (s0 : Int) (τ : TT) (Q : TT → Prop) : Prop := Hid (TJ cX11_cUnit 2 none 2 (rU Q) 79 (fun o => [vN, vN]) (fun o => [(0, s0), (2, o)]) τ)
set_option maxHeartbeats 2000000 in
theorem s_cUnit {l1 : Int} {τ : TT} {Q : TT → Prop} (hB : ∀ (r1 : -2147483648 ≤ τ.1 158 ∧ τ.1 158 < 2147483648), (∀ (c4 : (τ.1 158) ≤ 0), W_cUnit_45 l1 τ Q) ∧ (∀ (c4 : 0 < (τ.1 158)), w_cIsLow l1 τ (fun x8 τ8 => ∀ (r8 : x8 = 0 ∨ x8 = 1), (∀ (c11 : x8 = 0), W_cUnit_45 l1 τ8 Q) ∧ (∀ (c11 : ¬ x8 = 0), ∀ (r19 : -2147483648 ≤ τ8.1 158 ∧ τ8.1 158 < 2147483648), w_cAdd (((65536 + (((τ8.1 158) - 55296) * 1024)) + l1) - 56320) τ8 (fun τ36 => Q (τ36.s 158 0)))))) : w_cUnit l1 τ Q := sorry
set_option maxHeartbeats 2000000 in
theorem s_cUnit_45 {l1 : Int} {τ : TT} {Q : TT → Prop} (hB : w_cEndUnits  τ (fun τ46 => w_cIsHigh l1 τ46 (fun x50 τ50 => ∀ (r50 : x50 = 0 ∨ x50 = 1), (∀ (c53 : x50 = 0), w_cIsLow l1 τ50 (fun x66 τ66 => ∀ (r66 : x66 = 0 ∨ x66 = 1), (∀ (c69 : x66 = 0), W_cUnit_79 l1 τ66 Q) ∧ (∀ (c69 : ¬ x66 = 0), W_cUnit_79 65533 τ66 Q))) ∧ (∀ (c53 : ¬ x50 = 0), (-2147483648 ≤ l1 ∧ l1 < 2147483648) ∧ Q (τ50.s 158 l1))))) : W_cUnit_45 l1 τ Q := sorry
set_option maxHeartbeats 2000000 in
theorem s_cUnit_79 {s0 : Int} {τ : TT} {Q : TT → Prop} (hB : w_cAdd s0 τ (fun τ79 => Q τ79)) : W_cUnit_79 s0 τ Q := sorry
def w_cReadUnits (l1 : Int) (τ : TT) (Q : TT → Prop) : Prop := Hid (TC yX11_cReadUnits cX11_cReadUnits 4 none 3 (rU Q) (fun o => [(2, o), (0, l1)]) τ)
def W_cReadUnits_5 (l1 : Int) (τ : TT) (Q : TT → Prop) : Prop := Hid (TJ cX11_cReadUnits 4 none 3 (rU Q) 5 (fun o => [(2, o), (0, l1), vN, vN]) (fun o => []) τ)
def W_cReadUnits_58 (l1 s0 : Int) (τ : TT) (Q : TT → Prop) : Prop := Hid (TJ cX11_cReadUnits 4 none 3 (rU Q) 58 (fun o => [(2, o), (0, l1), vN, vN]) (fun o => [(0, s0), (2, o)]) τ)
set_option maxHeartbeats 2000000 in
theorem s_cReadUnits {l1 : Int} {τ : TT} {Q : TT → Prop} (hB : W_cReadUnits_5 l1 (τ.s 158 0) Q) : w_cReadUnits l1 τ Q := sorry
set_option maxHeartbeats 2000000 in
theorem s_cReadUnits_5 {l1 : Int} {τ : TT} {Q : TT → Prop} (hB : ∀ (r6 : -2147483648 ≤ τ.1 155 ∧ τ.1 155 < 2147483648), ∀ (r12 : -2147483648 ≤ τ.1 154 ∧ τ.1 154 < 2147483648), (-2147483648 ≤ ((τ.1 155) + 1) ∧ ((τ.1 155) + 1) < 2147483648) ∧ (∀ (c15 : (τ.1 154) ≤ ((τ.1 155) + 1)), w_cEndUnits  τ (fun τ75 => ∀ (r79 : -2147483648 ≤ τ75.1 155 ∧ τ75.1 155 < 2147483648), ∀ (r83 : -2147483648 ≤ τ75.1 154 ∧ τ75.1 154 < 2147483648), (∀ (c86 : (τ75.1 154) ≤ (τ75.1 155)), Q τ75) ∧ (∀ (c86 : (τ75.1 155) < (τ75.1 154)), w_cAdd 65533 τ75 (fun τ93 => ∀ (r98 : -2147483648 ≤ τ93.1 155 ∧ τ93.1 155 < 2147483648), (-2147483648 ≤ ((τ93.1 155) + 1) ∧ ((τ93.1 155) + 1) < 2147483648) ∧ Q (τ93.s 155 ((τ93.1 155) + 1)))))) ∧ (∀ (c15 : ((τ.1 155) + 1) < (τ.1 154)), w_cByteOf (τ.1 155) τ (fun x23 τ23 => ∀ (r23 : -2147483648 ≤ x23 ∧ x23 < 2147483648), ∀ (r29 : -2147483648 ≤ τ23.1 155 ∧ τ23.1 155 < 2147483648), w_cByteOf ((τ23.1 155) + 1) τ23 (fun x34 τ34 => ∀ (r34 : -2147483648 ≤ x34 ∧ x34 < 2147483648), (-2147483648 ≤ l1 ∧ l1 < 2147483648) ∧ (∀ (c40 : l1 = 0), W_cReadUnits_58 l1 ((orI (x23 * 256) x34)) τ34 Q) ∧ (∀ (c40 : ¬ l1 = 0), W_cReadUnits_58 l1 ((orI (x34 * 256) x23)) τ34 Q))))) : W_cReadUnits_5 l1 τ Q := sorry
set_option maxHeartbeats 2000000 in
theorem s_cReadUnits_58 {l1 s0 : Int} {τ : TT} {Q : TT → Prop} (hB : w_cUnit s0 τ (fun τ58 => ∀ (r63 : -2147483648 ≤ τ58.1 155 ∧ τ58.1 155 < 2147483648), (-2147483648 ≤ ((τ58.1 155) + 2) ∧ ((τ58.1 155) + 2) < 2147483648) ∧ W_cReadUnits_5 l1 (τ58.s 155 ((τ58.1 155) + 2)) Q)) : W_cReadUnits_58 l1 s0 τ Q := sorry
def w_cReadMarked (τ : TT) (Q : TT → Prop) : Prop := Hid (TC yX11_cReadMarked cX11_cReadMarked 3 none 4 (rU Q) (fun o => [(2, o)]) τ)
def W_cReadMarked_26 (τ : TT) (Q : TT → Prop) : Prop := Hid (TJ cX11_cReadMarked 3 none 4 (rU Q) 26 (fun o => [(2, o), vN, vN]) (fun o => []) τ)
def W_cReadMarked_27 (s0 : Int) (τ : TT) (Q : TT → Prop) : Prop := Hid (TJ cX11_cReadMarked 3 none 4 (rU Q) 27 (fun o => [(2, o), vN, vN]) (fun o => [(0, s0)]) τ)
def W_cReadMarked_54 (l1 : Int) (τ : TT) (Q : TT → Prop) : Prop := Hid (TJ cX11_cReadMarked 3 none 4 (rU Q) 54 (fun o => [(2, o), (0, l1), vN]) (fun o => []) τ)
def W_cReadMarked_55 (l1 s0 : Int) (τ : TT) (Q : TT → Prop) : Prop := Hid (TJ cX11_cReadMarked 3 none 4 (rU Q) 55 (fun o => [(2, o), (0, l1), vN]) (fun o => [(0, s0)]) τ)
def W_cReadMarked_65 (l1 : Int) (τ : TT) (Q : TT → Prop) : Prop := Hid (TJ cX11_cReadMarked 3 none 4 (rU Q) 65 (fun o => [(2, o), (0, l1), vN]) (fun o => [(2, o)]) τ)
def W_cReadMarked_70 (l1 s0 : Int) (τ : TT) (Q : TT → Prop) : Prop := Hid (TJ cX11_cReadMarked 3 none 4 (rU Q) 70 (fun o => [(2, o), (0, l1), vN]) (fun o => [(0, s0), (2, o)]) τ)
set_option maxHeartbeats 2000000 in
theorem s_cReadMarked {τ : TT} {Q : TT → Prop} (hB : w_cByteOf 0 τ (fun x2 τ2 => ∀ (r2 : -2147483648 ≤ x2 ∧ x2 < 2147483648), (∀ (c8 : ¬ x2 = 255), W_cReadMarked_26  τ2 Q) ∧ (∀ (c8 : x2 = 255), w_cByteOf 1 τ2 (fun x13 τ13 => ∀ (r13 : -2147483648 ≤ x13 ∧ x13 < 2147483648), (∀ (c19 : ¬ x13 = 254), W_cReadMarked_26  τ13 Q) ∧ (∀ (c19 : x13 = 254), W_cReadMarked_27 1 τ13 Q))))) : w_cReadMarked  τ Q := sorry
set_option maxHeartbeats 2000000 in
theorem s_cReadMarked_26 {τ : TT} {Q : TT → Prop} (hB : W_cReadMarked_27 0 τ Q) : W_cReadMarked_26  τ Q := sorry
set_option maxHeartbeats 2000000 in
theorem s_cReadMarked_27 {s0 : Int} {τ : TT} {Q : TT → Prop} (hB : w_cByteOf 0 τ (fun x30 τ30 => ∀ (r30 : -2147483648 ≤ x30 ∧ x30 < 2147483648), (∀ (c36 : ¬ x30 = 254), W_cReadMarked_54 s0 τ30 Q) ∧ (∀ (c36 : x30 = 254), w_cByteOf 1 τ30 (fun x41 τ41 => ∀ (r41 : -2147483648 ≤ x41 ∧ x41 < 2147483648), (∀ (c47 : ¬ x41 = 255), W_cReadMarked_54 s0 τ41 Q) ∧ (∀ (c47 : x41 = 255), W_cReadMarked_55 s0 1 τ41 Q))))) : W_cReadMarked_27 s0 τ Q := sorry
set_option maxHeartbeats 2000000 in
theorem s_cReadMarked_54 {l1 : Int} {τ : TT} {Q : TT → Prop} (hB : W_cReadMarked_55 l1 0 τ Q) : W_cReadMarked_54 l1 τ Q := sorry
set_option maxHeartbeats 2000000 in
theorem s_cReadMarked_55 {l1 s0 : Int} {τ : TT} {Q : TT → Prop} (hB : (-2147483648 ≤ l1 ∧ l1 < 2147483648) ∧ (∀ (c58 : ¬ l1 = 0), W_cReadMarked_65 l1 τ Q) ∧ (∀ (c58 : l1 = 0), (-2147483648 ≤ s0 ∧ s0 < 2147483648) ∧ (∀ (c62 : s0 = 0), W_cReadMarked_70 l1 0 τ Q) ∧ (∀ (c62 : ¬ s0 = 0), W_cReadMarked_65 l1 τ Q))) : W_cReadMarked_55 l1 s0 τ Q := sorry
set_option maxHeartbeats 2000000 in
theorem s_cReadMarked_65 {l1 : Int} {τ : TT} {Q : TT → Prop} (hB : W_cReadMarked_70 l1 2 τ Q) : W_cReadMarked_65 l1 τ Q := sorry
set_option maxHeartbeats 2000000 in
theorem s_cReadMarked_70 {l1 s0 : Int} {τ : TT} {Q : TT → Prop} (hB : (-2147483648 ≤ s0 ∧ s0 < 2147483648) ∧ w_cReadUnits l1 (τ.s 155 s0) (fun τ75 => Q τ75)) : W_cReadMarked_70 l1 s0 τ Q := sorry
def w_cMayFollow (l0 l1 : Int) (τ : TT) (Q : Int → TT → Prop) : Prop := Hid (TC yX11_cMayFollow cX11_cMayFollow 4 (some .boolean) 0 (rZ Q) (fun o => [(0, l0), (0, l1)]) τ)
def W_cMayFollow_29 (l0 l1 s0 : Int) (τ : TT) (Q : Int → TT → Prop) : Prop := Hid (TJ cX11_cMayFollow 4 (some .boolean) 0 (rZ Q) 29 (fun o => [(0, l0), (0, l1), vN, vN]) (fun o => [(0, s0)]) τ)
def W_cMayFollow_59 (l1 l2 s0 : Int) (τ : TT) (Q : Int → TT → Prop) : Prop := Hid (TJ cX11_cMayFollow 4 (some .boolean) 0 (rZ Q) 59 (fun o => [vN, (0, l1), (0, l2), vN]) (fun o => [(0, s0)]) τ)
set_option maxHeartbeats 2000000 in
theorem s_cMayFollow {l0 l1 : Int} {τ : TT} {Q : Int → TT → Prop} (hB : (-2147483648 ≤ l0 ∧ l0 < 2147483648) ∧ (∀ (c4 : ¬ l0 = 224), (∀ (c17 : ¬ l0 = 240), W_cMayFollow_29 l0 l1 128 τ Q) ∧ (∀ (c17 : l0 = 240), W_cMayFollow_29 l0 l1 144 τ Q)) ∧ (∀ (c4 : l0 = 224), W_cMayFollow_29 l0 l1 160 τ Q)) : w_cMayFollow l0 l1 τ Q := sorry
set_option maxHeartbeats 2000000 in
theorem s_cMayFollow_29 {l0 l1 s0 : Int} {τ : TT} {Q : Int → TT → Prop} (hB : (-2147483648 ≤ l0 ∧ l0 < 2147483648) ∧ (∀ (c34 : ¬ l0 = 237), (∀ (c47 : ¬ l0 = 244), W_cMayFollow_59 l1 s0 191 τ Q) ∧ (∀ (c47 : l0 = 244), W_cMayFollow_59 l1 s0 143 τ Q)) ∧ (∀ (c34 : l0 = 237), W_cMayFollow_59 l1 s0 159 τ Q)) : W_cMayFollow_29 l0 l1 s0 τ Q := sorry
set_option maxHeartbeats 2000000 in
theorem s_cMayFollow_59 {l1 l2 s0 : Int} {τ : TT} {Q : Int → TT → Prop} (hB : (-2147483648 ≤ l1 ∧ l1 < 2147483648) ∧ (-2147483648 ≤ l2 ∧ l2 < 2147483648) ∧ (∀ (c62 : l1 < l2), Q 0 τ) ∧ (∀ (c62 : l2 ≤ l1), (-2147483648 ≤ s0 ∧ s0 < 2147483648) ∧ (∀ (c67 : s0 < l1), Q 0 τ) ∧ (∀ (c67 : l1 ≤ s0), Q 1 τ))) : W_cMayFollow_59 l1 l2 s0 τ Q := sorry
def w_cTakeUtf8 (τ : TT) (Q : TT → Prop) : Prop := Hid (TC yX11_cTakeUtf8 cX11_cTakeUtf8 5 none 1 (rU Q) (fun o => [(2, o)]) τ)
def W_cTakeUtf8_50 (l1 : Int) (τ : TT) (Q : TT → Prop) : Prop := Hid (TJ cX11_cTakeUtf8 5 none 1 (rU Q) 50 (fun o => [(2, o), (0, l1), vN, vN, vN]) (fun o => []) τ)
def W_cTakeUtf8_87 (l1 s0 : Int) (τ : TT) (Q : TT → Prop) : Prop := Hid (TJ cX11_cTakeUtf8 5 none 1 (rU Q) 87 (fun o => [(2, o), (0, l1), vN, vN, vN]) (fun o => [(0, s0)]) τ)
def W_cTakeUtf8_68 (l1 : Int) (τ : TT) (Q : TT → Prop) : Prop := Hid (TJ cX11_cTakeUtf8 5 none 1 (rU Q) 68 (fun o => [(2, o), (0, l1), vN, vN, vN]) (fun o => []) τ)
def W_cTakeUtf8_120 (l1 l2 l3 l4 : Int) (τ : TT) (Q : TT → Prop) : Prop := Hid (TJ cX11_cTakeUtf8 5 none 1 (rU Q) 120 (fun o => [(2, o), (0, l1), (0, l2), (0, l3), (0, l4)]) (fun o => []) τ)
def W_cTakeUtf8_86 (l1 : Int) (τ : TT) (Q : TT → Prop) : Prop := Hid (TJ cX11_cTakeUtf8 5 none 1 (rU Q) 86 (fun o => [(2, o), (0, l1), vN, vN, vN]) (fun o => []) τ)
def W_cTakeUtf8_210 (l2 l3 l4 : Int) (τ : TT) (Q : TT → Prop) : Prop := Hid (TJ cX11_cTakeUtf8 5 none 1 (rU Q) 210 (fun o => [(2, o), vN, (0, l2), (0, l3), (0, l4)]) (fun o => []) τ)
def W_cTakeUtf8_177 (l1 l2 l3 l4 : Int) (τ : TT) (Q : TT → Prop) : Prop := Hid (TJ cX11_cTakeUtf8 5 none 1 (rU Q) 177 (fun o => [(2, o), (0, l1), (0, l2), (0, l3), (0, l4)]) (fun o => []) τ)
def W_cTakeUtf8_225 (τ : TT) (Q : TT → Prop) : Prop := Hid (TJ cX11_cTakeUtf8 5 none 1 (rU Q) 225 (fun o => [vN, vN, vN, vN, vN]) (fun o => [(2, o)]) τ)
def W_cTakeUtf8_228 (s0 : Int) (τ : TT) (Q : TT → Prop) : Prop := Hid (TJ cX11_cTakeUtf8 5 none 1 (rU Q) 228 (fun o => [vN, vN, vN, vN, vN]) (fun o => [(0, s0), (2, o)]) τ)
set_option maxHeartbeats 2000000 in
theorem s_cTakeUtf8 {τ : TT} {Q : TT → Prop} (hB : ∀ (r2 : -2147483648 ≤ τ.1 155 ∧ τ.1 155 < 2147483648), w_cByteOf (τ.1 155) τ (fun x5 τ5 => ∀ (r5 : -2147483648 ≤ x5 ∧ x5 < 2147483648), ∀ (r11 : -2147483648 ≤ τ5.1 155 ∧ τ5.1 155 < 2147483648), (-2147483648 ≤ ((τ5.1 155) + 1) ∧ ((τ5.1 155) + 1) < 2147483648) ∧ (∀ (c23 : 128 ≤ x5), (∀ (c36 : x5 < 194), W_cTakeUtf8_50 x5 (τ5.s 155 ((τ5.1 155) + 1)) Q) ∧ (∀ (c36 : 194 ≤ x5), (∀ (c43 : 223 < x5), W_cTakeUtf8_50 x5 (τ5.s 155 ((τ5.1 155) + 1)) Q) ∧ (∀ (c43 : x5 ≤ 223), W_cTakeUtf8_87 x5 1 (τ5.s 155 ((τ5.1 155) + 1)) Q))) ∧ (∀ (c23 : x5 < 128), w_cAdd x5 (τ5.s 155 ((τ5.1 155) + 1)) (fun τ28 => Q τ28)))) : w_cTakeUtf8  τ Q := sorry
set_option maxHeartbeats 2000000 in
theorem s_cTakeUtf8_50 {l1 : Int} {τ : TT} {Q : TT → Prop} (hB : (-2147483648 ≤ l1 ∧ l1 < 2147483648) ∧ (∀ (c54 : l1 < 224), W_cTakeUtf8_68 l1 τ Q) ∧ (∀ (c54 : 224 ≤ l1), (∀ (c61 : 239 < l1), W_cTakeUtf8_68 l1 τ Q) ∧ (∀ (c61 : l1 ≤ 239), W_cTakeUtf8_87 l1 2 τ Q))) : W_cTakeUtf8_50 l1 τ Q := sorry
set_option maxHeartbeats 2000000 in
theorem s_cTakeUtf8_87 {l1 s0 : Int} {τ : TT} {Q : TT → Prop} (hB : (-2147483648 ≤ s0 ∧ s0 < 2147483648) ∧ (∀ (c90 : ¬ s0 = 1), (∀ (c102 : ¬ s0 = 2), W_cTakeUtf8_120 l1 s0 ((l1 % 8)) 0 τ Q) ∧ (∀ (c102 : s0 = 2), W_cTakeUtf8_120 l1 s0 ((l1 % 16)) 0 τ Q)) ∧ (∀ (c90 : s0 = 1), W_cTakeUtf8_120 l1 s0 ((l1 % 32)) 0 τ Q)) : W_cTakeUtf8_87 l1 s0 τ Q := sorry
set_option maxHeartbeats 2000000 in
theorem s_cTakeUtf8_68 {l1 : Int} {τ : TT} {Q : TT → Prop} (hB : (-2147483648 ≤ l1 ∧ l1 < 2147483648) ∧ (∀ (c72 : l1 < 240), W_cTakeUtf8_86 l1 τ Q) ∧ (∀ (c72 : 240 ≤ l1), (∀ (c79 : 244 < l1), W_cTakeUtf8_86 l1 τ Q) ∧ (∀ (c79 : l1 ≤ 244), W_cTakeUtf8_87 l1 3 τ Q))) : W_cTakeUtf8_68 l1 τ Q := sorry
set_option maxHeartbeats 2000000 in
theorem s_cTakeUtf8_120 {l1 l2 l3 l4 : Int} {τ : TT} {Q : TT → Prop} (hB : (-2147483648 ≤ l4 ∧ l4 < 2147483648) ∧ (-2147483648 ≤ l2 ∧ l2 < 2147483648) ∧ (∀ (c123 : l2 ≤ l4), W_cTakeUtf8_210 l2 l3 l4 τ Q) ∧ (∀ (c123 : l4 < l2), (∀ (c128 : ¬ l4 = 0), ∀ (r151 : -2147483648 ≤ τ.1 155 ∧ τ.1 155 < 2147483648), w_cByteOf (τ.1 155) τ (fun x154 τ154 => ∀ (r154 : -2147483648 ≤ x154 ∧ x154 < 2147483648), (∀ (c160 : x154 < 128), W_cTakeUtf8_210 l2 l3 l4 τ154 Q) ∧ (∀ (c160 : 128 ≤ x154), ∀ (r165 : -2147483648 ≤ τ154.1 155 ∧ τ154.1 155 < 2147483648), w_cByteOf (τ154.1 155) τ154 (fun x168 τ168 => ∀ (r168 : -2147483648 ≤ x168 ∧ x168 < 2147483648), (∀ (c174 : 191 < x168), W_cTakeUtf8_210 l2 l3 l4 τ168 Q) ∧ (∀ (c174 : x168 ≤ 191), W_cTakeUtf8_177 l1 l2 l3 l4 τ168 Q))))) ∧ (∀ (c128 : l4 = 0), ∀ (r134 : -2147483648 ≤ τ.1 155 ∧ τ.1 155 < 2147483648), w_cByteOf (τ.1 155) τ (fun x137 τ137 => ∀ (r137 : -2147483648 ≤ x137 ∧ x137 < 2147483648), w_cMayFollow l1 x137 τ137 (fun x140 τ140 => ∀ (r140 : x140 = 0 ∨ x140 = 1), (∀ (c143 : x140 = 0), W_cTakeUtf8_210 l2 l3 l4 τ140 Q) ∧ (∀ (c143 : ¬ x140 = 0), W_cTakeUtf8_177 l1 l2 l3 l4 τ140 Q)))))) : W_cTakeUtf8_120 l1 l2 l3 l4 τ Q := sorry
set_option maxHeartbeats 2000000 in
theorem s_cTakeUtf8_86 {l1 : Int} {τ : TT} {Q : TT → Prop} (hB : W_cTakeUtf8_87 l1 0 τ Q) : W_cTakeUtf8_86 l1 τ Q := sorry
set_option maxHeartbeats 2000000 in
theorem s_cTakeUtf8_210 {l2 l3 l4 : Int} {τ : TT} {Q : TT → Prop} (hB : (-2147483648 ≤ l2 ∧ l2 < 2147483648) ∧ (∀ (c212 : l2 ≤ 0), W_cTakeUtf8_225  τ Q) ∧ (∀ (c212 : 0 < l2), (-2147483648 ≤ l4 ∧ l4 < 2147483648) ∧ (∀ (c218 : ¬ l4 = l2), W_cTakeUtf8_225  τ Q) ∧ (∀ (c218 : l4 = l2), W_cTakeUtf8_228 l3 τ Q))) : W_cTakeUtf8_210 l2 l3 l4 τ Q := sorry
set_option maxHeartbeats 2000000 in
theorem s_cTakeUtf8_177 {l1 l2 l3 l4 : Int} {τ : TT} {Q : TT → Prop} (hB : ∀ (r183 : -2147483648 ≤ τ.1 155 ∧ τ.1 155 < 2147483648), w_cByteOf (τ.1 155) τ (fun x186 τ186 => ∀ (r186 : -2147483648 ≤ x186 ∧ x186 < 2147483648), ∀ (r196 : -2147483648 ≤ τ186.1 155 ∧ τ186.1 155 < 2147483648), (-2147483648 ≤ ((τ186.1 155) + 1) ∧ ((τ186.1 155) + 1) < 2147483648) ∧ W_cTakeUtf8_120 l1 l2 ((orI (l3 * 64) (x186 % 64))) ((l4 + 1)) (τ186.s 155 ((τ186.1 155) + 1)) Q)) : W_cTakeUtf8_177 l1 l2 l3 l4 τ Q := sorry
set_option maxHeartbeats 2000000 in
theorem s_cTakeUtf8_225 {τ : TT} {Q : TT → Prop} (hB : W_cTakeUtf8_228 65533 τ Q) : W_cTakeUtf8_225  τ Q := sorry
set_option maxHeartbeats 2000000 in
theorem s_cTakeUtf8_228 {s0 : Int} {τ : TT} {Q : TT → Prop} (hB : w_cAdd s0 τ (fun τ228 => Q τ228)) : W_cTakeUtf8_228 s0 τ Q := sorry
def w_cSixBits (l0 : Int) (τ : TT) (Q : Int → TT → Prop) : Prop := Hid (TC yX11_cSixBits cX11_cSixBits 1 (some .int) 0 (rI Q) (fun o => [(0, l0)]) τ)
def W_cSixBits_17 (l0 : Int) (τ : TT) (Q : Int → TT → Prop) : Prop := Hid (TJ cX11_cSixBits 1 (some .int) 0 (rI Q) 17 (fun o => [(0, l0)]) (fun o => []) τ)
def W_cSixBits_37 (l0 : Int) (τ : TT) (Q : Int → TT → Prop) : Prop := Hid (TJ cX11_cSixBits 1 (some .int) 0 (rI Q) 37 (fun o => [(0, l0)]) (fun o => []) τ)
def W_cSixBits_57 (l0 : Int) (τ : TT) (Q : Int → TT → Prop) : Prop := Hid (TJ cX11_cSixBits 1 (some .int) 0 (rI Q) 57 (fun o => [(0, l0)]) (fun o => []) τ)
set_option maxHeartbeats 2000000 in
theorem s_cSixBits {l0 : Int} {τ : TT} {Q : Int → TT → Prop} (hB : (-2147483648 ≤ l0 ∧ l0 < 2147483648) ∧ (∀ (c3 : l0 < 65), W_cSixBits_17 l0 τ Q) ∧ (∀ (c3 : 65 ≤ l0), (∀ (c9 : 90 < l0), W_cSixBits_17 l0 τ Q) ∧ (∀ (c9 : l0 ≤ 90), (-2147483648 ≤ (l0 - 65) ∧ (l0 - 65) < 2147483648) ∧ Q (l0 - 65) τ))) : w_cSixBits l0 τ Q := sorry
set_option maxHeartbeats 2000000 in
theorem s_cSixBits_17 {l0 : Int} {τ : TT} {Q : Int → TT → Prop} (hB : (-2147483648 ≤ l0 ∧ l0 < 2147483648) ∧ (∀ (c20 : l0 < 97), W_cSixBits_37 l0 τ Q) ∧ (∀ (c20 : 97 ≤ l0), (∀ (c26 : 122 < l0), W_cSixBits_37 l0 τ Q) ∧ (∀ (c26 : l0 ≤ 122), (-2147483648 ≤ ((l0 - 97) + 26) ∧ ((l0 - 97) + 26) < 2147483648) ∧ Q ((l0 - 97) + 26) τ))) : W_cSixBits_17 l0 τ Q := sorry
set_option maxHeartbeats 2000000 in
theorem s_cSixBits_37 {l0 : Int} {τ : TT} {Q : Int → TT → Prop} (hB : (-2147483648 ≤ l0 ∧ l0 < 2147483648) ∧ (∀ (c40 : l0 < 48), W_cSixBits_57 l0 τ Q) ∧ (∀ (c40 : 48 ≤ l0), (∀ (c46 : 57 < l0), W_cSixBits_57 l0 τ Q) ∧ (∀ (c46 : l0 ≤ 57), (-2147483648 ≤ ((l0 - 48) + 52) ∧ ((l0 - 48) + 52) < 2147483648) ∧ Q ((l0 - 48) + 52) τ))) : W_cSixBits_37 l0 τ Q := sorry
set_option maxHeartbeats 2000000 in
theorem s_cSixBits_57 {l0 : Int} {τ : TT} {Q : Int → TT → Prop} (hB : (-2147483648 ≤ l0 ∧ l0 < 2147483648) ∧ (∀ (c60 : ¬ l0 = 43), (∀ (c71 : ¬ l0 = 47), Q (-1) τ) ∧ (∀ (c71 : l0 = 47), Q 63 τ)) ∧ (∀ (c60 : l0 = 43), Q 62 τ)) : W_cSixBits_57 l0 τ Q := sorry
def w_cTakeUtf7 (τ : TT) (Q : TT → Prop) : Prop := Hid (TC yX11_cTakeUtf7 cX11_cTakeUtf7 4 none 3 (rU Q) (fun o => [(2, o)]) τ)
def W_cTakeUtf7_82 (l2 l3 : Int) (τ : TT) (Q : TT → Prop) : Prop := Hid (TJ cX11_cTakeUtf7 4 none 3 (rU Q) 82 (fun o => [(2, o), vN, (0, l2), (0, l3)]) (fun o => []) τ)
def W_cTakeUtf7_39 (s0 : Int) (τ : TT) (Q : TT → Prop) : Prop := Hid (TJ cX11_cTakeUtf7 4 none 3 (rU Q) 39 (fun o => [vN, vN, vN, vN]) (fun o => [(0, s0), (2, o)]) τ)
def W_cTakeUtf7_165 (τ : TT) (Q : TT → Prop) : Prop := Hid (TJ cX11_cTakeUtf7 4 none 3 (rU Q) 165 (fun o => [(2, o), vN, vN, vN]) (fun o => []) τ)
def W_cTakeUtf7_152 (l2 l3 : Int) (τ : TT) (Q : TT → Prop) : Prop := Hid (TJ cX11_cTakeUtf7 4 none 3 (rU Q) 152 (fun o => [(2, o), vN, (0, l2), (0, l3)]) (fun o => []) τ)
set_option maxHeartbeats 2000000 in
theorem s_cTakeUtf7 {τ : TT} {Q : TT → Prop} (hB : ∀ (r2 : -2147483648 ≤ τ.1 155 ∧ τ.1 155 < 2147483648), w_cByteOf (τ.1 155) τ (fun x5 τ5 => ∀ (r5 : -2147483648 ≤ x5 ∧ x5 < 2147483648), ∀ (r11 : -2147483648 ≤ τ5.1 155 ∧ τ5.1 155 < 2147483648), (-2147483648 ≤ ((τ5.1 155) + 1) ∧ ((τ5.1 155) + 1) < 2147483648) ∧ (∀ (c22 : x5 = 43), w_cByteOf ((τ5.1 155) + 1) (τ5.s 155 ((τ5.1 155) + 1)) (fun x48 τ48 => ∀ (r48 : -2147483648 ≤ x48 ∧ x48 < 2147483648), (∀ (c53 : ¬ x48 = 45), W_cTakeUtf7_82 0 0 (τ48.s 158 0) Q) ∧ (∀ (c53 : x48 = 45), ∀ (r58 : -2147483648 ≤ τ48.1 155 ∧ τ48.1 155 < 2147483648), (-2147483648 ≤ ((τ48.1 155) + 1) ∧ ((τ48.1 155) + 1) < 2147483648) ∧ w_cAdd 43 (τ48.s 155 ((τ48.1 155) + 1)) (fun τ69 => Q τ69)))) ∧ (∀ (c22 : ¬ x5 = 43), (∀ (c29 : x5 ≤ 127), W_cTakeUtf7_39 x5 (τ5.s 155 ((τ5.1 155) + 1)) Q) ∧ (∀ (c29 : 127 < x5), W_cTakeUtf7_39 65533 (τ5.s 155 ((τ5.1 155) + 1)) Q)))) : w_cTakeUtf7  τ Q := sorry
set_option maxHeartbeats 2000000 in
theorem s_cTakeUtf7_82 {l2 l3 : Int} {τ : TT} {Q : TT → Prop} (hB : ∀ (r83 : -2147483648 ≤ τ.1 155 ∧ τ.1 155 < 2147483648), ∀ (r87 : -2147483648 ≤ τ.1 154 ∧ τ.1 154 < 2147483648), (∀ (c90 : (τ.1 154) ≤ (τ.1 155)), W_cTakeUtf7_165  τ Q) ∧ (∀ (c90 : (τ.1 155) < (τ.1 154)), w_cByteOf (τ.1 155) τ (fun x98 τ98 => ∀ (r98 : -2147483648 ≤ x98 ∧ x98 < 2147483648), w_cSixBits x98 τ98 (fun x101 τ101 => ∀ (r101 : -2147483648 ≤ x101 ∧ x101 < 2147483648), (∀ (c105 : x101 = (-1)), W_cTakeUtf7_165  τ101 Q) ∧ (∀ (c105 : ¬ x101 = (-1)), ∀ (r114 : -2147483648 ≤ τ101.1 155 ∧ τ101.1 155 < 2147483648), w_cByteOf (τ101.1 155) τ101 (fun x117 τ117 => ∀ (r117 : -2147483648 ≤ x117 ∧ x117 < 2147483648), w_cSixBits x117 τ117 (fun x120 τ120 => ∀ (r120 : -2147483648 ≤ x120 ∧ x120 < 2147483648), (-2147483648 ≤ (l2 + 6) ∧ (l2 + 6) < 2147483648) ∧ (∀ (c135 : (l2 + 6) ≤ 15), W_cTakeUtf7_152 ((l2 + 6)) (((orI (l3 * 64) x120) % 4194304)) τ120 Q) ∧ (∀ (c135 : 15 < (l2 + 6)), w_cUnit ((shrI ((orI (l3 * 64) x120) % 4194304) ((l2 + 6) + (-16))) % 65536) τ120 (fun τ149 => W_cTakeUtf7_152 (((l2 + 6) + (-16))) (((orI (l3 * 64) x120) % 4194304)) τ149 Q))))))))) : W_cTakeUtf7_82 l2 l3 τ Q := sorry
set_option maxHeartbeats 2000000 in
theorem s_cTakeUtf7_39 {s0 : Int} {τ : TT} {Q : TT → Prop} (hB : w_cAdd s0 τ (fun τ39 => Q τ39)) : W_cTakeUtf7_39 s0 τ Q := sorry
set_option maxHeartbeats 2000000 in
theorem s_cTakeUtf7_165 {τ : TT} {Q : TT → Prop} (hB : w_cEndUnits  τ (fun τ166 => ∀ (r171 : -2147483648 ≤ τ166.1 155 ∧ τ166.1 155 < 2147483648), w_cByteOf (τ166.1 155) τ166 (fun x179 τ179 => ∀ (r179 : -2147483648 ≤ x179 ∧ x179 < 2147483648), (∀ (c184 : ¬ x179 = 45), Q (τ179.s 155 ((τ166.1 155) + 0))) ∧ (∀ (c184 : x179 = 45), (-2147483648 ≤ ((τ166.1 155) + 1) ∧ ((τ166.1 155) + 1) < 2147483648) ∧ Q (τ179.s 155 ((τ166.1 155) + 1)))))) : W_cTakeUtf7_165  τ Q := sorry
set_option maxHeartbeats 2000000 in
theorem s_cTakeUtf7_152 {l2 l3 : Int} {τ : TT} {Q : TT → Prop} (hB : ∀ (r154 : -2147483648 ≤ τ.1 155 ∧ τ.1 155 < 2147483648), (-2147483648 ≤ ((τ.1 155) + 1) ∧ ((τ.1 155) + 1) < 2147483648) ∧ W_cTakeUtf7_82 l2 l3 (τ.s 155 ((τ.1 155) + 1)) Q) : W_cTakeUtf7_152 l2 l3 τ Q := sorry
def w_cLatin9 (l0 : Int) (τ : TT) (Q : Int → TT → Prop) : Prop := Hid (TC yX11_cLatin9 cX11_cLatin9 1 (some .int) 0 (rI Q) (fun o => [(0, l0)]) τ)
set_option maxHeartbeats 2000000 in
theorem s_cLatin9 {l0 : Int} {τ : TT} {Q : Int → TT → Prop} (hB : (-2147483648 ≤ l0 ∧ l0 < 2147483648) ∧ (∀ (c1 : l0 < 164 ∨ 190 < l0), Q l0 τ) ∧ (∀ (c1 : l0 = 164), Q 8364 τ) ∧ (∀ (c1 : l0 = 165), Q l0 τ) ∧ (∀ (c1 : l0 = 166), Q 352 τ) ∧ (∀ (c1 : l0 = 167), Q l0 τ) ∧ (∀ (c1 : l0 = 168), Q 353 τ) ∧ (∀ (c1 : l0 = 169), Q l0 τ) ∧ (∀ (c1 : l0 = 170), Q l0 τ) ∧ (∀ (c1 : l0 = 171), Q l0 τ) ∧ (∀ (c1 : l0 = 172), Q l0 τ) ∧ (∀ (c1 : l0 = 173), Q l0 τ) ∧ (∀ (c1 : l0 = 174), Q l0 τ) ∧ (∀ (c1 : l0 = 175), Q l0 τ) ∧ (∀ (c1 : l0 = 176), Q l0 τ) ∧ (∀ (c1 : l0 = 177), Q l0 τ) ∧ (∀ (c1 : l0 = 178), Q l0 τ) ∧ (∀ (c1 : l0 = 179), Q l0 τ) ∧ (∀ (c1 : l0 = 180), Q 381 τ) ∧ (∀ (c1 : l0 = 181), Q l0 τ) ∧ (∀ (c1 : l0 = 182), Q l0 τ) ∧ (∀ (c1 : l0 = 183), Q l0 τ) ∧ (∀ (c1 : l0 = 184), Q 382 τ) ∧ (∀ (c1 : l0 = 185), Q l0 τ) ∧ (∀ (c1 : l0 = 186), Q l0 τ) ∧ (∀ (c1 : l0 = 187), Q l0 τ) ∧ (∀ (c1 : l0 = 188), Q 338 τ) ∧ (∀ (c1 : l0 = 189), Q 339 τ) ∧ (∀ (c1 : l0 = 190), Q 376 τ)) : w_cLatin9 l0 τ Q := sorry
def w_cCharOf (l1 l2 : Int) (τ : TT) (Q : Int → TT → Prop) : Prop := Hid (TC yX11_cCharOf cX11_cCharOf 3 (some .int) 1 (rI Q) (fun o => [(2, o), (0, l1), (0, l2)]) τ)
def W_cCharOf_105 (l2 : Int) (τ : TT) (Q : Int → TT → Prop) : Prop := Hid (TJ cX11_cCharOf 3 (some .int) 1 (rI Q) 105 (fun o => [vN, vN, (0, l2)]) (fun o => []) τ)
set_option maxHeartbeats 2000000 in
theorem s_cCharOf {l1 l2 : Int} {τ : TT} {Q : Int → TT → Prop} (hB : (-2147483648 ≤ l1 ∧ l1 < 2147483648) ∧ (∀ (c1 : l1 < 0 ∨ 3 < l1), (-2147483648 ≤ l2 ∧ l2 < 2147483648) ∧ (∀ (c86 : 128 ≤ l2), (∀ (c95 : l2 = 163), W_cCharOf_105 l2 τ Q) ∧ (∀ (c95 : ¬ l2 = 163), (∀ (c102 : ¬ l2 = 179), (∀ (c126 : 192 ≤ l2), (∀ (c139 : 224 ≤ l2), (0 ≤ (l2 - 224) ∧ (l2 - 224) < 32) ∧ ∀ (r164 : -2147483648 ≤ τ.2 99 (l2 - 224) ∧ τ.2 99 (l2 - 224) < 2147483648), ∀ (kr164 : τ.2 99 (l2 - 224) = cl_cKoi.getD ((l2 - 224)).toNat 0), (-2147483648 ≤ ((τ.2 99 (l2 - 224)) - 32) ∧ ((τ.2 99 (l2 - 224)) - 32) < 2147483648) ∧ Q ((τ.2 99 (l2 - 224)) - 32) τ) ∧ (∀ (c139 : l2 < 224), (0 ≤ (l2 - 192) ∧ (l2 - 192) < 32) ∧ ∀ (r151 : -2147483648 ≤ τ.2 99 (l2 - 192) ∧ τ.2 99 (l2 - 192) < 2147483648), ∀ (kr151 : τ.2 99 (l2 - 192) = cl_cKoi.getD ((l2 - 192)).toNat 0), Q (τ.2 99 (l2 - 192)) τ)) ∧ (∀ (c126 : l2 < 192), Q 65533 τ)) ∧ (∀ (c102 : l2 = 179), W_cCharOf_105 l2 τ Q))) ∧ (∀ (c86 : l2 < 128), Q l2 τ)) ∧ (∀ (c1 : l1 = 0), (-2147483648 ≤ l2 ∧ l2 < 2147483648) ∧ (∀ (c36 : 128 ≤ l2), Q 65533 τ) ∧ (∀ (c36 : l2 < 128), Q l2 τ)) ∧ (∀ (c1 : l1 = 1), (-2147483648 ≤ l2 ∧ l2 < 2147483648) ∧ Q l2 τ) ∧ (∀ (c1 : l1 = 2), w_cLatin9 l2 τ (fun x50 τ50 => ∀ (r50 : -2147483648 ≤ x50 ∧ x50 < 2147483648), Q x50 τ50)) ∧ (∀ (c1 : l1 = 3), (-2147483648 ≤ l2 ∧ l2 < 2147483648) ∧ (∀ (c57 : l2 ≤ 127), Q l2 τ) ∧ (∀ (c57 : 127 < l2), (∀ (c64 : 160 ≤ l2), Q l2 τ) ∧ (∀ (c64 : l2 < 160), (0 ≤ (l2 - 128) ∧ (l2 - 128) < 32) ∧ ∀ (r76 : -2147483648 ≤ τ.2 98 (l2 - 128) ∧ τ.2 98 (l2 - 128) < 2147483648), ∀ (kr76 : τ.2 98 (l2 - 128) = cl_cWindows.getD ((l2 - 128)).toNat 0), Q (τ.2 98 (l2 - 128)) τ)))) : w_cCharOf l1 l2 τ Q := sorry
set_option maxHeartbeats 2000000 in
theorem s_cCharOf_105 {l2 : Int} {τ : TT} {Q : Int → TT → Prop} (hB : (-2147483648 ≤ l2 ∧ l2 < 2147483648) ∧ (∀ (c109 : ¬ l2 = 163), Q 1025 τ) ∧ (∀ (c109 : l2 = 163), Q 1105 τ)) : W_cCharOf_105 l2 τ Q := sorry
def w_cReadAll (l1 : Int) (τ : TT) (Q : TT → Prop) : Prop := Hid (TC yX11_cReadAll cX11_cReadAll 2 none 5 (rU Q) (fun o => [(2, o), (0, l1)]) τ)
def W_cReadAll_29 (l1 : Int) (τ : TT) (Q : TT → Prop) : Prop := Hid (TJ cX11_cReadAll 2 none 5 (rU Q) 29 (fun o => [(2, o), (0, l1)]) (fun o => []) τ)
def W_cReadAll_44 (l1 : Int) (τ : TT) (Q : TT → Prop) : Prop := Hid (TJ cX11_cReadAll 2 none 5 (rU Q) 44 (fun o => [(2, o), (0, l1)]) (fun o => []) τ)
def W_cReadAll_41 (l1 s0 : Int) (τ : TT) (Q : TT → Prop) : Prop := Hid (TJ cX11_cReadAll 2 none 5 (rU Q) 41 (fun o => [(2, o), (0, l1)]) (fun o => [(0, s0), (2, o)]) τ)
set_option maxHeartbeats 2000000 in
theorem s_cReadAll {l1 : Int} {τ : TT} {Q : TT → Prop} (hB : (-2147483648 ≤ l1 ∧ l1 < 2147483648) ∧ (∀ (c7 : ¬ l1 = 5), (∀ (c20 : l1 = 6), W_cReadAll_29 l1 (τ.s 155 0) Q) ∧ (∀ (c20 : ¬ l1 = 6), (∀ (c26 : ¬ l1 = 7), W_cReadAll_44 l1 (τ.s 155 0) Q) ∧ (∀ (c26 : l1 = 7), W_cReadAll_29 l1 (τ.s 155 0) Q))) ∧ (∀ (c7 : l1 = 5), w_cReadMarked  (τ.s 155 0) (fun τ11 => W_cReadAll_44 l1 τ11 Q))) : w_cReadAll l1 τ Q := sorry
set_option maxHeartbeats 2000000 in
theorem s_cReadAll_29 {l1 : Int} {τ : TT} {Q : TT → Prop} (hB : (-2147483648 ≤ l1 ∧ l1 < 2147483648) ∧ (∀ (c33 : ¬ l1 = 7), W_cReadAll_41 l1 0 τ Q) ∧ (∀ (c33 : l1 = 7), W_cReadAll_41 l1 1 τ Q)) : W_cReadAll_29 l1 τ Q := sorry
set_option maxHeartbeats 2000000 in
theorem s_cReadAll_44 {l1 : Int} {τ : TT} {Q : TT → Prop} (hB : ∀ (r45 : -2147483648 ≤ τ.1 155 ∧ τ.1 155 < 2147483648), ∀ (r49 : -2147483648 ≤ τ.1 154 ∧ τ.1 154 < 2147483648), (∀ (c52 : (τ.1 154) ≤ (τ.1 155)), Q τ) ∧ (∀ (c52 : (τ.1 155) < (τ.1 154)), (-2147483648 ≤ l1 ∧ l1 < 2147483648) ∧ (∀ (c57 : ¬ l1 = 4), (∀ (c70 : ¬ l1 = 9), w_cByteOf (τ.1 155) τ (fun x88 τ88 => ∀ (r88 : -2147483648 ≤ x88 ∧ x88 < 2147483648), w_cCharOf l1 x88 τ88 (fun x91 τ91 => ∀ (r91 : -2147483648 ≤ x91 ∧ x91 < 2147483648), w_cAdd x91 τ91 (fun τ94 => ∀ (r99 : -2147483648 ≤ τ94.1 155 ∧ τ94.1 155 < 2147483648), (-2147483648 ≤ ((τ94.1 155) + 1) ∧ ((τ94.1 155) + 1) < 2147483648) ∧ W_cReadAll_44 l1 (τ94.s 155 ((τ94.1 155) + 1)) Q)))) ∧ (∀ (c70 : l1 = 9), w_cTakeUtf7  τ (fun τ74 => W_cReadAll_44 l1 τ74 Q))) ∧ (∀ (c57 : l1 = 4), w_cTakeUtf8  τ (fun τ61 => W_cReadAll_44 l1 τ61 Q)))) : W_cReadAll_44 l1 τ Q := sorry
set_option maxHeartbeats 2000000 in
theorem s_cReadAll_41 {l1 s0 : Int} {τ : TT} {Q : TT → Prop} (hB : w_cReadUnits s0 τ (fun τ41 => W_cReadAll_44 l1 τ41 Q)) : W_cReadAll_41 l1 s0 τ Q := sorry
def w_cReadPlain (l1 l2 : Int) (τ : TT) (Q : TT → Prop) : Prop := Hid (TC yX11_cReadPlain cX11_cReadPlain 3 none 6 (rU Q) (fun o => [(2, o), (0, l1), (0, l2)]) τ)
set_option maxHeartbeats 2000000 in
theorem s_cReadPlain {l1 l2 : Int} {τ : TT} {Q : TT → Prop} (hB : w_cTapeToSrc l1 l2 τ (fun τ3 => w_cReadAll 4 τ3 (fun τ8 => Q τ8))) : w_cReadPlain l1 l2 τ Q := sorry
def w_cPut (l1 : Int) (τ : TT) (Q : TT → Prop) : Prop := Hid (TC yX11_cPut cX11_cPut 2 none 0 (rU Q) (fun o => [(2, o), (0, l1)]) τ)
set_option maxHeartbeats 2000000 in
theorem s_cPut {l1 : Int} {τ : TT} {Q : TT → Prop} (hB : ∀ (r5 : -2147483648 ≤ τ.1 153 ∧ τ.1 153 < 2147483648), (0 ≤ (τ.1 153) ∧ (τ.1 153) < 8500) ∧ (-2147483648 ≤ ((τ.1 153) + 1) ∧ ((τ.1 153) + 1) < 2147483648) ∧ Q ((τ.a 102 (τ.1 153) ((l1 + 128) % 256 - 128)).s 153 ((τ.1 153) + 1))) : w_cPut l1 τ Q := sorry
def w_cUnbase (l1 l2 : Int) (τ : TT) (Q : TT → Prop) : Prop := Hid (TC yX11_cUnbase cX11_cUnbase 5 none 1 (rU Q) (fun o => [(2, o), (0, l1), (0, l2)]) τ)
def W_cUnbase_12 (l2 l3 : Int) (τ : TT) (Q : TT → Prop) : Prop := Hid (TJ cX11_cUnbase 5 none 1 (rU Q) 12 (fun o => [(2, o), vN, (0, l2), (0, l3), vN]) (fun o => []) τ)
set_option maxHeartbeats 2000000 in
theorem s_cUnbase {l1 l2 : Int} {τ : TT} {Q : TT → Prop} (hB : W_cUnbase_12 l2 l1 ((τ.s 156 0).s 157 0) Q) : w_cUnbase l1 l2 τ Q := sorry
set_option maxHeartbeats 2000000 in
theorem s_cUnbase_12 {l2 l3 : Int} {τ : TT} {Q : TT → Prop} (hB : (-2147483648 ≤ l3 ∧ l3 < 2147483648) ∧ (-2147483648 ≤ l2 ∧ l2 < 2147483648) ∧ (∀ (c14 : l2 ≤ l3), Q τ) ∧ (∀ (c14 : l3 < l2), (0 ≤ l3 ∧ l3 < 4200) ∧ ∀ (r22 : -128 ≤ τ.2 100 l3 ∧ τ.2 100 l3 < 128), (∀ (c25 : (τ.2 100 l3) = 61), Q τ) ∧ (∀ (c25 : ¬ (τ.2 100 l3) = 61), ∀ (r33 : -128 ≤ τ.2 100 l3 ∧ τ.2 100 l3 < 128), w_cSixBits (τ.2 100 l3) τ (fun x34 τ34 => ∀ (r34 : -2147483648 ≤ x34 ∧ x34 < 2147483648), (∀ (c42 : x34 = (-1)), W_cUnbase_12 l2 ((l3 + 1)) τ34 Q) ∧ (∀ (c42 : ¬ x34 = (-1)), ∀ (r47 : -2147483648 ≤ τ34.1 157 ∧ τ34.1 157 < 2147483648), ∀ (r65 : -2147483648 ≤ τ34.1 156 ∧ τ34.1 156 < 2147483648), (-2147483648 ≤ ((τ34.1 156) + 6) ∧ ((τ34.1 156) + 6) < 2147483648) ∧ (∀ (c80 : ((τ34.1 156) + 6) ≤ 7), W_cUnbase_12 l2 ((l3 + 1)) ((τ34.s 157 ((orI ((τ34.1 157) * 64) x34) % 65536)).s 156 ((τ34.1 156) + 6)) Q) ∧ (∀ (c80 : 7 < ((τ34.1 156) + 6)), (-2147483648 ≤ (((τ34.1 156) + 6) - 8) ∧ (((τ34.1 156) + 6) - 8) < 2147483648) ∧ w_cPut (shrI ((orI ((τ34.1 157) * 64) x34) % 65536) (((τ34.1 156) + 6) - 8)) (((τ34.s 157 ((orI ((τ34.1 157) * 64) x34) % 65536)).s 156 ((τ34.1 156) + 6)).s 156 (((τ34.1 156) + 6) - 8)) (fun τ104 => W_cUnbase_12 l2 ((l3 + 1)) τ104 Q))))))) : W_cUnbase_12 l2 l3 τ Q := sorry
def w_cHex (l0 : Int) (τ : TT) (Q : Int → TT → Prop) : Prop := Hid (TC yX11_cHex cX11_cHex 1 (some .int) 0 (rI Q) (fun o => [(0, l0)]) τ)
def W_cHex_17 (l0 : Int) (τ : TT) (Q : Int → TT → Prop) : Prop := Hid (TJ cX11_cHex 1 (some .int) 0 (rI Q) 17 (fun o => [(0, l0)]) (fun o => []) τ)
def W_cHex_37 (l0 : Int) (τ : TT) (Q : Int → TT → Prop) : Prop := Hid (TJ cX11_cHex 1 (some .int) 0 (rI Q) 37 (fun o => [(0, l0)]) (fun o => []) τ)
set_option maxHeartbeats 2000000 in
theorem s_cHex {l0 : Int} {τ : TT} {Q : Int → TT → Prop} (hB : (-2147483648 ≤ l0 ∧ l0 < 2147483648) ∧ (∀ (c3 : l0 < 48), W_cHex_17 l0 τ Q) ∧ (∀ (c3 : 48 ≤ l0), (∀ (c9 : 57 < l0), W_cHex_17 l0 τ Q) ∧ (∀ (c9 : l0 ≤ 57), (-2147483648 ≤ (l0 - 48) ∧ (l0 - 48) < 2147483648) ∧ Q (l0 - 48) τ))) : w_cHex l0 τ Q := sorry
set_option maxHeartbeats 2000000 in
theorem s_cHex_17 {l0 : Int} {τ : TT} {Q : Int → TT → Prop} (hB : (-2147483648 ≤ l0 ∧ l0 < 2147483648) ∧ (∀ (c20 : l0 < 65), W_cHex_37 l0 τ Q) ∧ (∀ (c20 : 65 ≤ l0), (∀ (c26 : 70 < l0), W_cHex_37 l0 τ Q) ∧ (∀ (c26 : l0 ≤ 70), (-2147483648 ≤ ((l0 - 65) + 10) ∧ ((l0 - 65) + 10) < 2147483648) ∧ Q ((l0 - 65) + 10) τ))) : W_cHex_17 l0 τ Q := sorry
set_option maxHeartbeats 2000000 in
theorem s_cHex_37 {l0 : Int} {τ : TT} {Q : Int → TT → Prop} (hB : (-2147483648 ≤ l0 ∧ l0 < 2147483648) ∧ (∀ (c40 : l0 < 97), Q (-1) τ) ∧ (∀ (c40 : 97 ≤ l0), (∀ (c46 : 102 < l0), Q (-1) τ) ∧ (∀ (c46 : l0 ≤ 102), (-2147483648 ≤ ((l0 - 97) + 10) ∧ ((l0 - 97) + 10) < 2147483648) ∧ Q ((l0 - 97) + 10) τ))) : W_cHex_37 l0 τ Q := sorry
def w_cTold (l1 l2 : Int) (τ : TT) (Q : Int → TT → Prop) : Prop := Hid (TC yX11_cTold cX11_cTold 5 (some .int) 1 (rI Q) (fun o => [(2, o), (0, l1), (0, l2)]) τ)
set_option maxHeartbeats 2000000 in
theorem s_cTold {l1 l2 : Int} {τ : TT} {Q : Int → TT → Prop} (hB : (-2147483648 ≤ (l1 + 2) ∧ (l1 + 2) < 2147483648) ∧ (-2147483648 ≤ l2 ∧ l2 < 2147483648) ∧ (∀ (c4 : (l1 + 2) < l2), (0 ≤ (l1 + 1) ∧ (l1 + 1) < 4200) ∧ ∀ (r16 : -128 ≤ τ.2 100 (l1 + 1) ∧ τ.2 100 (l1 + 1) < 128), w_cHex (τ.2 100 (l1 + 1)) τ (fun x17 τ17 => ∀ (r17 : -2147483648 ≤ x17 ∧ x17 < 2147483648), (0 ≤ (l1 + 2) ∧ (l1 + 2) < 4200) ∧ ∀ (r28 : -128 ≤ τ17.2 100 (l1 + 2) ∧ τ17.2 100 (l1 + 2) < 128), w_cHex (τ17.2 100 (l1 + 2)) τ17 (fun x29 τ29 => ∀ (r29 : -2147483648 ≤ x29 ∧ x29 < 2147483648), (∀ (c36 : x17 = (-1)), Q (-1) τ29) ∧ (∀ (c36 : ¬ x17 = (-1)), (∀ (c42 : ¬ x29 = (-1)), (-2147483648 ≤ ((16 * x17) + x29) ∧ ((16 * x17) + x29) < 2147483648) ∧ Q ((16 * x17) + x29) τ29) ∧ (∀ (c42 : x29 = (-1)), Q (-1) τ29))))) ∧ (∀ (c4 : l2 ≤ (l1 + 2)), Q (-1) τ)) : w_cTold l1 l2 τ Q := sorry
def w_cReadWord (τ : TT) (Q : TT → Prop) : Prop := Hid (TC yX11_cReadWord cX11_cReadWord 3 none 6 (rU Q) (fun o => [(2, o)]) τ)
def W_cReadWord_34 (l1 : Int) (τ : TT) (Q : TT → Prop) : Prop := Hid (TJ cX11_cReadWord 3 none 6 (rU Q) 34 (fun o => [(2, o), (0, l1), vN]) (fun o => []) τ)
def W_cReadWord_118 (τ : TT) (Q : TT → Prop) : Prop := Hid (TJ cX11_cReadWord 3 none 6 (rU Q) 118 (fun o => [(2, o), vN, vN]) (fun o => []) τ)
def W_cReadWord_66 (l1 s0 : Int) (τ : TT) (Q : TT → Prop) : Prop := Hid (TJ cX11_cReadWord 3 none 6 (rU Q) 66 (fun o => [(2, o), (0, l1), vN]) (fun o => [(0, s0)]) τ)
def W_cReadWord_128 (l1 : Int) (τ : TT) (Q : TT → Prop) : Prop := Hid (TJ cX11_cReadWord 3 none 6 (rU Q) 128 (fun o => [(2, o), (0, l1), vN]) (fun o => []) τ)
def W_cReadWord_99 (l1 l2 s0 : Int) (τ : TT) (Q : TT → Prop) : Prop := Hid (TJ cX11_cReadWord 3 none 6 (rU Q) 99 (fun o => [(2, o), (0, l1), (0, l2)]) (fun o => [(0, s0), (2, o)]) τ)
set_option maxHeartbeats 2000000 in
theorem s_cReadWord {τ : TT} {Q : TT → Prop} (hB : ∀ (r6 : -2147483648 ≤ τ.1 160 ∧ τ.1 160 < 2147483648), (∀ (c11 : ¬ (τ.1 160) = 66), ∀ (r30 : -2147483648 ≤ τ.1 161 ∧ τ.1 161 < 2147483648), W_cReadWord_34 ((τ.1 161)) (τ.s 153 0) Q) ∧ (∀ (c11 : (τ.1 160) = 66), ∀ (r16 : -2147483648 ≤ τ.1 161 ∧ τ.1 161 < 2147483648), ∀ (r20 : -2147483648 ≤ τ.1 162 ∧ τ.1 162 < 2147483648), w_cUnbase (τ.1 161) (τ.1 162) (τ.s 153 0) (fun τ23 => W_cReadWord_118  τ23 Q))) : w_cReadWord  τ Q := sorry
set_option maxHeartbeats 2000000 in
theorem s_cReadWord_34 {l1 : Int} {τ : TT} {Q : TT → Prop} (hB : ∀ (r36 : -2147483648 ≤ τ.1 162 ∧ τ.1 162 < 2147483648), (-2147483648 ≤ l1 ∧ l1 < 2147483648) ∧ (∀ (c39 : (τ.1 162) ≤ l1), W_cReadWord_118  τ Q) ∧ (∀ (c39 : l1 < (τ.1 162)), (0 ≤ l1 ∧ l1 < 4200) ∧ ∀ (r47 : -128 ≤ τ.2 100 l1 ∧ τ.2 100 l1 < 128), (∀ (c50 : ¬ (τ.2 100 l1) = 61), W_cReadWord_66 l1 ((-1)) τ Q) ∧ (∀ (c50 : (τ.2 100 l1) = 61), w_cTold l1 (τ.1 162) τ (fun x59 τ59 => ∀ (r59 : -2147483648 ≤ x59 ∧ x59 < 2147483648), W_cReadWord_66 l1 x59 τ59 Q)))) : W_cReadWord_34 l1 τ Q := sorry
set_option maxHeartbeats 2000000 in
theorem s_cReadWord_118 {τ : TT} {Q : TT → Prop} (hB : ∀ (r120 : -2147483648 ≤ τ.1 153 ∧ τ.1 153 < 2147483648), W_cReadWord_128 0 (τ.s 154 (τ.1 153)) Q) : W_cReadWord_118  τ Q := sorry
set_option maxHeartbeats 2000000 in
theorem s_cReadWord_66 {l1 s0 : Int} {τ : TT} {Q : TT → Prop} (hB : (-2147483648 ≤ s0 ∧ s0 < 2147483648) ∧ (∀ (c70 : s0 = (-1)), (0 ≤ l1 ∧ l1 < 4200) ∧ ∀ (r82 : -128 ≤ τ.2 100 l1 ∧ τ.2 100 l1 < 128), (∀ (c85 : ¬ (τ.2 100 l1) = 95), ∀ (r98 : -128 ≤ τ.2 100 l1 ∧ τ.2 100 l1 < 128), W_cReadWord_99 l1 s0 ((τ.2 100 l1)) τ Q) ∧ (∀ (c85 : (τ.2 100 l1) = 95), W_cReadWord_99 l1 s0 32 τ Q)) ∧ (∀ (c70 : ¬ s0 = (-1)), W_cReadWord_99 l1 s0 s0 τ Q)) : W_cReadWord_66 l1 s0 τ Q := sorry
set_option maxHeartbeats 2000000 in
theorem s_cReadWord_128 {l1 : Int} {τ : TT} {Q : TT → Prop} (hB : ∀ (r130 : -2147483648 ≤ τ.1 153 ∧ τ.1 153 < 2147483648), (-2147483648 ≤ l1 ∧ l1 < 2147483648) ∧ (∀ (c133 : (τ.1 153) ≤ l1), ∀ (r156 : -2147483648 ≤ τ.1 159 ∧ τ.1 159 < 2147483648), w_cReadAll (τ.1 159) τ (fun τ159 => Q τ159)) ∧ (∀ (c133 : l1 < (τ.1 153)), (0 ≤ l1 ∧ l1 < 8500) ∧ ∀ (r146 : -128 ≤ τ.2 102 l1 ∧ τ.2 102 l1 < 128), (0 ≤ l1 ∧ l1 < 4200) ∧ W_cReadWord_128 ((l1 + 1)) (τ.a 103 l1 (τ.2 102 l1)) Q)) : W_cReadWord_128 l1 τ Q := sorry
set_option maxHeartbeats 2000000 in
theorem s_cReadWord_99 {l1 l2 s0 : Int} {τ : TT} {Q : TT → Prop} (hB : w_cPut s0 τ (fun τ99 => (-2147483648 ≤ l2 ∧ l2 < 2147483648) ∧ (∀ (c105 : ¬ l2 = (-1)), W_cReadWord_34 ((l1 + 3)) τ99 Q) ∧ (∀ (c105 : l2 = (-1)), W_cReadWord_34 ((l1 + 1)) τ99 Q))) : W_cReadWord_99 l1 l2 s0 τ Q := sorry
def w_cWords (τ : TT) (Q : Int → TT → Prop) : Prop := Hid (TC yX11_cWords cX11_cWords 4 (some .int) 7 (rI Q) (fun o => [(2, o)]) τ)
def W_cWords_11 (l1 l2 l3 : Int) (τ : TT) (Q : Int → TT → Prop) : Prop := Hid (TJ cX11_cWords 4 (some .int) 7 (rI Q) 11 (fun o => [(2, o), (0, l1), (0, l2), (0, l3)]) (fun o => []) τ)
def W_cWords_40 (l1 l2 : Int) (τ : TT) (Q : Int → TT → Prop) : Prop := Hid (TJ cX11_cWords 4 (some .int) 7 (rI Q) 40 (fun o => [(2, o), (0, l1), (0, l2), vN]) (fun o => []) τ)
def W_cWords_46 (τ : TT) (Q : Int → TT → Prop) : Prop := Hid (TJ cX11_cWords 4 (some .int) 7 (rI Q) 46 (fun o => [(2, o), vN, vN, vN]) (fun o => []) τ)
set_option maxHeartbeats 2000000 in
theorem s_cWords {τ : TT} {Q : Int → TT → Prop} (hB : W_cWords_11 0 0 0 (τ.s 150 0) Q) : w_cWords  τ Q := sorry
set_option maxHeartbeats 2000000 in
theorem s_cWords_11 {l1 l2 l3 : Int} {τ : TT} {Q : Int → TT → Prop} (hB : ∀ (r13 : -2147483648 ≤ τ.1 148 ∧ τ.1 148 < 2147483648), (-2147483648 ≤ l2 ∧ l2 < 2147483648) ∧ (∀ (c16 : (τ.1 148) ≤ l2), w_cReadPlain l1 (τ.1 148) τ (fun τ76 => ∀ (r85 : -2147483648 ≤ τ76.1 150 ∧ τ76.1 150 < 2147483648), Q (τ76.1 150) (τ76.s 148 0))) ∧ (∀ (c16 : l2 < (τ.1 148)), w_cIsWord l2 τ (fun x21 τ21 => ∀ (r21 : x21 = 0 ∨ x21 = 1), (∀ (c24 : x21 = 0), W_cWords_11 l1 ((l2 + 1)) l3 τ21 Q) ∧ (∀ (c24 : ¬ x21 = 0), (-2147483648 ≤ l3 ∧ l3 < 2147483648) ∧ (∀ (c28 : l3 = 0), W_cWords_40 l1 l2 τ21 Q) ∧ (∀ (c28 : ¬ l3 = 0), w_cIsBlank l1 l2 τ21 (fun x34 τ34 => ∀ (r34 : x34 = 0 ∨ x34 = 1), (∀ (c37 : ¬ x34 = 0), W_cWords_46  τ34 Q) ∧ (∀ (c37 : x34 = 0), W_cWords_40 l1 l2 τ34 Q))))))) : W_cWords_11 l1 l2 l3 τ Q := sorry
set_option maxHeartbeats 2000000 in
theorem s_cWords_40 {l1 l2 : Int} {τ : TT} {Q : Int → TT → Prop} (hB : w_cReadPlain l1 l2 τ (fun τ43 => W_cWords_46  τ43 Q)) : W_cWords_40 l1 l2 τ Q := sorry
set_option maxHeartbeats 2000000 in
theorem s_cWords_46 {τ : TT} {Q : Int → TT → Prop} (hB : w_cReadWord  τ (fun τ47 => ∀ (r51 : -2147483648 ≤ τ47.1 162 ∧ τ47.1 162 < 2147483648), W_cWords_11 (((τ47.1 162) + 2)) (((τ47.1 162) + 2)) 1 τ47 Q)) : W_cWords_46  τ Q := sorry
def w_readTitle (l1 : Int) (τ : TT) (Q : TT → Prop) : Prop := Hid (TC yX11_readTitle cX11_readTitle 2 none 8 (rU Q) (fun o => [(2, o), (0, l1)]) τ)
set_option maxHeartbeats 2000000 in
theorem s_readTitle {l1 : Int} {τ : TT} {Q : TT → Prop} (hB : w_fetch 0 l1 τ (fun x3 τ3 => ∀ (r3 : -2147483648 ≤ x3 ∧ x3 < 2147483648), w_cWords  τ3 (fun x8 τ8 => ∀ (r8 : -2147483648 ≤ x8 ∧ x8 < 2147483648), Q τ8))) : w_readTitle l1 τ Q := sorry
def w_addCharacter (l1 : Int) (τ : TT) (Q : TT → Prop) : Prop := Hid (TC yX11_addCharacter cX11_addCharacter 2 none 0 (rU Q) (fun o => [(2, o), (0, l1)]) τ)
def W_addCharacter_33 (s0 s1 : Int) (τ : TT) (Q : TT → Prop) : Prop := Hid (TJ cX11_addCharacter 2 none 0 (rU Q) 33 (fun o => [(2, o), vN]) (fun o => [(0, s0), (0, s1), (2, o + 142)]) τ)
set_option maxHeartbeats 2000000 in
theorem s_addCharacter {l1 : Int} {τ : TT} {Q : TT → Prop} (hB : ∀ (r1 : -2147483648 ≤ τ.1 216 ∧ τ.1 216 < 2147483648), (∀ (c7 : ¬ (τ.1 216) = 2000), (-2147483648 ≤ l1 ∧ l1 < 2147483648) ∧ (∀ (c23 : l1 ≤ 65535), W_addCharacter_33 l1 ((τ.1 216)) τ Q) ∧ (∀ (c23 : 65535 < l1), W_addCharacter_33 65533 ((τ.1 216)) τ Q)) ∧ (∀ (c7 : (τ.1 216) = 2000), Q τ)) : w_addCharacter l1 τ Q := sorry
set_option maxHeartbeats 2000000 in
theorem s_addCharacter_33 {s0 s1 : Int} {τ : TT} {Q : TT → Prop} (hB : (0 ≤ s1 ∧ s1 < 2000) ∧ (-2147483648 ≤ s0 ∧ s0 < 2147483648) ∧ ∀ (r36 : -2147483648 ≤ τ.1 216 ∧ τ.1 216 < 2147483648), (-2147483648 ≤ ((τ.1 216) + 1) ∧ ((τ.1 216) + 1) < 2147483648) ∧ Q ((τ.a 142 s1 s0).s 216 ((τ.1 216) + 1))) : W_addCharacter_33 s0 s1 τ Q := sorry
def w_addCharacters (τ : TT) (Q : TT → Prop) : Prop := Hid (TC yX11_addCharacters cX11_addCharacters 2 none 1 (rU Q) (fun o => [(2, o)]) τ)
def W_addCharacters_2 (l1 : Int) (τ : TT) (Q : TT → Prop) : Prop := Hid (TJ cX11_addCharacters 2 none 1 (rU Q) 2 (fun o => [(2, o), (0, l1)]) (fun o => []) τ)
set_option maxHeartbeats 2000000 in
theorem s_addCharacters {τ : TT} {Q : TT → Prop} (hB : W_addCharacters_2 0 τ Q) : w_addCharacters  τ Q := sorry
set_option maxHeartbeats 2000000 in
theorem s_addCharacters_2 {l1 : Int} {τ : TT} {Q : TT → Prop} (hB : ∀ (r4 : -2147483648 ≤ τ.1 150 ∧ τ.1 150 < 2147483648), (-2147483648 ≤ l1 ∧ l1 < 2147483648) ∧ (∀ (c7 : (τ.1 150) ≤ l1), Q τ) ∧ (∀ (c7 : l1 < (τ.1 150)), (0 ≤ l1 ∧ l1 < 4200) ∧ ∀ (r16 : -2147483648 ≤ τ.2 101 l1 ∧ τ.2 101 l1 < 2147483648), w_addCharacter (τ.2 101 l1) τ (fun τ17 => W_addCharacters_2 ((l1 + 1)) τ17 Q))) : W_addCharacters_2 l1 τ Q := sorry
def w_readPart (l1 l2 : Int) (τ : TT) (Q : TT → Prop) : Prop := Hid (TC yX11_readPart cX11_readPart 4 none 7 (rU Q) (fun o => [(2, o), (0, l1), (0, l2)]) τ)
set_option maxHeartbeats 2000000 in
theorem s_readPart {l1 l2 : Int} {τ : TT} {Q : TT → Prop} (hB : w_fetch l1 l2 τ (fun x3 τ3 => ∀ (r3 : -2147483648 ≤ x3 ∧ x3 < 2147483648), w_cReadPlain 0 x3 (τ3.s 150 0) (fun τ15 => Q τ15))) : w_readPart l1 l2 τ Q := sorry
def w_wDepthOf (l1 l2 : Int) (τ : TT) (Q : Int → TT → Prop) : Prop := Hid (TC yX11_wDepthOf cX11_wDepthOf 5 (some .int) 0 (rI Q) (fun o => [(2, o), (0, l1), (0, l2)]) τ)
def W_wDepthOf_5 (l2 l3 l4 : Int) (τ : TT) (Q : Int → TT → Prop) : Prop := Hid (TJ cX11_wDepthOf 5 (some .int) 0 (rI Q) 5 (fun o => [(2, o), vN, (0, l2), (0, l3), (0, l4)]) (fun o => []) τ)
def W_wDepthOf_35 (l2 l3 l4 : Int) (τ : TT) (Q : Int → TT → Prop) : Prop := Hid (TJ cX11_wDepthOf 5 (some .int) 0 (rI Q) 35 (fun o => [(2, o), vN, (0, l2), (0, l3), (0, l4)]) (fun o => []) τ)
set_option maxHeartbeats 2000000 in
theorem s_wDepthOf {l1 l2 : Int} {τ : TT} {Q : Int → TT → Prop} (hB : W_wDepthOf_5 l2 0 l1 τ Q) : w_wDepthOf l1 l2 τ Q := sorry
set_option maxHeartbeats 2000000 in
theorem s_wDepthOf_5 {l2 l3 l4 : Int} {τ : TT} {Q : Int → TT → Prop} (hB : (-2147483648 ≤ l4 ∧ l4 < 2147483648) ∧ (-2147483648 ≤ l2 ∧ l2 < 2147483648) ∧ (∀ (c8 : l2 ≤ l4), (-2147483648 ≤ l3 ∧ l3 < 2147483648) ∧ Q l3 τ) ∧ (∀ (c8 : l4 < l2), (0 ≤ l4 ∧ l4 < 2000) ∧ ∀ (r17 : -2147483648 ≤ τ.2 142 l4 ∧ τ.2 142 l4 < 2147483648), (∀ (c20 : (τ.2 142 l4) = 32), W_wDepthOf_35 l2 l3 l4 τ Q) ∧ (∀ (c20 : ¬ (τ.2 142 l4) = 32), ∀ (r29 : -2147483648 ≤ τ.2 142 l4 ∧ τ.2 142 l4 < 2147483648), (∀ (c32 : ¬ (τ.2 142 l4) = 62), (-2147483648 ≤ l3 ∧ l3 < 2147483648) ∧ Q l3 τ) ∧ (∀ (c32 : (τ.2 142 l4) = 62), W_wDepthOf_35 l2 l3 l4 τ Q)))) : W_wDepthOf_5 l2 l3 l4 τ Q := sorry
set_option maxHeartbeats 2000000 in
theorem s_wDepthOf_35 {l2 l3 l4 : Int} {τ : TT} {Q : Int → TT → Prop} (hB : (0 ≤ l4 ∧ l4 < 2000) ∧ ∀ (r41 : -2147483648 ≤ τ.2 142 l4 ∧ τ.2 142 l4 < 2147483648), (∀ (c44 : ¬ (τ.2 142 l4) = 62), W_wDepthOf_5 l2 l3 ((l4 + 1)) τ Q) ∧ (∀ (c44 : (τ.2 142 l4) = 62), W_wDepthOf_5 l2 ((l3 + 1)) ((l4 + 1)) τ Q)) : W_wDepthOf_35 l2 l3 l4 τ Q := sorry
def w_wIsMark (l1 l2 : Int) (τ : TT) (Q : Int → TT → Prop) : Prop := Hid (TC yX11_wIsMark cX11_wIsMark 4 (some .boolean) 0 (rZ Q) (fun o => [(2, o), (0, l1), (0, l2)]) τ)
def W_wIsMark_27 (l1 : Int) (τ : TT) (Q : Int → TT → Prop) : Prop := Hid (TJ cX11_wIsMark 4 (some .boolean) 0 (rZ Q) 27 (fun o => [(2, o), (0, l1), vN, vN]) (fun o => []) τ)
set_option maxHeartbeats 2000000 in
theorem s_wIsMark {l1 l2 : Int} {τ : TT} {Q : Int → TT → Prop} (hB : (-2147483648 ≤ (l2 - l1) ∧ (l2 - l1) < 2147483648) ∧ (∀ (c6 : (l2 - l1) = 2), W_wIsMark_27 l1 τ Q) ∧ (∀ (c6 : ¬ (l2 - l1) = 2), (∀ (c11 : ¬ (l2 - l1) = 3), Q 0 τ) ∧ (∀ (c11 : (l2 - l1) = 3), (0 ≤ (l1 + 2) ∧ (l1 + 2) < 2000) ∧ ∀ (r21 : -2147483648 ≤ τ.2 142 (l1 + 2) ∧ τ.2 142 (l1 + 2) < 2147483648), (∀ (c24 : ¬ (τ.2 142 (l1 + 2)) = 32), Q 0 τ) ∧ (∀ (c24 : (τ.2 142 (l1 + 2)) = 32), W_wIsMark_27 l1 τ Q)))) : w_wIsMark l1 l2 τ Q := sorry
set_option maxHeartbeats 2000000 in
theorem s_wIsMark_27 {l1 : Int} {τ : TT} {Q : Int → TT → Prop} (hB : (0 ≤ l1 ∧ l1 < 2000) ∧ ∀ (r32 : -2147483648 ≤ τ.2 142 l1 ∧ τ.2 142 l1 < 2147483648), (∀ (c35 : ¬ (τ.2 142 l1) = 45), Q 0 τ) ∧ (∀ (c35 : (τ.2 142 l1) = 45), (0 ≤ (l1 + 1) ∧ (l1 + 1) < 2000) ∧ ∀ (r45 : -2147483648 ≤ τ.2 142 (l1 + 1) ∧ τ.2 142 (l1 + 1) < 2147483648), (∀ (c48 : ¬ (τ.2 142 (l1 + 1)) = 45), Q 0 τ) ∧ (∀ (c48 : (τ.2 142 (l1 + 1)) = 45), Q 1 τ))) : W_wIsMark_27 l1 τ Q := sorry
def w_wLengthOf (l0 : Int) (τ : TT) (Q : Int → TT → Prop) : Prop := Hid (TC yX11_wLengthOf cX11_wLengthOf 3 (some .int) 0 (rI Q) (fun o => [(1, l0)]) τ)
def W_wLengthOf_2 (l0 l2 : Int) (τ : TT) (Q : Int → TT → Prop) : Prop := Hid (TJ cX11_wLengthOf 3 (some .int) 0 (rI Q) 2 (fun o => [(1, l0), vN, (0, l2)]) (fun o => []) τ)
set_option maxHeartbeats 2000000 in
theorem s_wLengthOf {l0 : Int} {τ : TT} {Q : Int → TT → Prop} (hB : W_wLengthOf_2 l0 0 τ Q) : w_wLengthOf l0 τ Q := sorry
set_option maxHeartbeats 2000000 in
theorem s_wLengthOf_2 {l0 l2 : Int} {τ : TT} {Q : Int → TT → Prop} (hB : (-2147483648 ≤ l2 ∧ l2 < 2147483648) ∧ (∀ (c5 : 8 ≤ l2), Q l2 τ) ∧ (∀ (c5 : l2 < 8), (∀ (c16 : (ushrL l0 (8 * l2)) = 0), Q l2 τ) ∧ (∀ (c16 : ¬ (ushrL l0 (8 * l2)) = 0), W_wLengthOf_2 l0 ((l2 + 1)) τ Q))) : W_wLengthOf_2 l0 l2 τ Q := sorry
def w_wIsPlain (l0 : Int) (τ : TT) (Q : Int → TT → Prop) : Prop := Hid (TC yX11_wIsPlain cX11_wIsPlain 1 (some .boolean) 0 (rZ Q) (fun o => [(0, l0)]) τ)
def W_wIsPlain_12 (l0 : Int) (τ : TT) (Q : Int → TT → Prop) : Prop := Hid (TJ cX11_wIsPlain 1 (some .boolean) 0 (rZ Q) 12 (fun o => [(0, l0)]) (fun o => []) τ)
set_option maxHeartbeats 2000000 in
theorem s_wIsPlain {l0 : Int} {τ : TT} {Q : Int → TT → Prop} (hB : (-2147483648 ≤ l0 ∧ l0 < 2147483648) ∧ (∀ (c3 : l0 < 65), W_wIsPlain_12 l0 τ Q) ∧ (∀ (c3 : 65 ≤ l0), (∀ (c9 : l0 ≤ 90), Q 1 τ) ∧ (∀ (c9 : 90 < l0), W_wIsPlain_12 l0 τ Q))) : w_wIsPlain l0 τ Q := sorry
set_option maxHeartbeats 2000000 in
theorem s_wIsPlain_12 {l0 : Int} {τ : TT} {Q : Int → TT → Prop} (hB : (-2147483648 ≤ l0 ∧ l0 < 2147483648) ∧ (∀ (c15 : l0 < 97), Q 0 τ) ∧ (∀ (c15 : 97 ≤ l0), (∀ (c21 : 122 < l0), Q 0 τ) ∧ (∀ (c21 : l0 ≤ 122), Q 1 τ))) : W_wIsPlain_12 l0 τ Q := sorry
def w_wIsLetter (l0 : Int) (τ : TT) (Q : Int → TT → Prop) : Prop := Hid (TC yX11_wIsLetter cX11_wIsLetter 1 (some .boolean) 1 (rZ Q) (fun o => [(0, l0)]) τ)
def W_wIsLetter_43 (l0 : Int) (τ : TT) (Q : Int → TT → Prop) : Prop := Hid (TJ cX11_wIsLetter 1 (some .boolean) 1 (rZ Q) 43 (fun o => [(0, l0)]) (fun o => []) τ)
set_option maxHeartbeats 2000000 in
theorem s_wIsLetter {l0 : Int} {τ : TT} {Q : Int → TT → Prop} (hB : w_wIsPlain l0 τ (fun x1 τ1 => ∀ (r1 : x1 = 0 ∨ x1 = 1), (∀ (c4 : x1 = 0), (-2147483648 ≤ l0 ∧ l0 < 2147483648) ∧ (∀ (c13 : l0 < 192), W_wIsLetter_43 l0 τ1 Q) ∧ (∀ (c13 : 192 ≤ l0), (∀ (c20 : 687 < l0), W_wIsLetter_43 l0 τ1 Q) ∧ (∀ (c20 : l0 ≤ 687), (∀ (c27 : l0 = 215), Q 0 τ1) ∧ (∀ (c27 : ¬ l0 = 215), (∀ (c34 : l0 = 247), Q 0 τ1) ∧ (∀ (c34 : ¬ l0 = 247), Q 1 τ1))))) ∧ (∀ (c4 : ¬ x1 = 0), Q 1 τ1))) : w_wIsLetter l0 τ Q := sorry
set_option maxHeartbeats 2000000 in
theorem s_wIsLetter_43 {l0 : Int} {τ : TT} {Q : Int → TT → Prop} (hB : (-2147483648 ≤ l0 ∧ l0 < 2147483648) ∧ (∀ (c47 : l0 < 880), Q 0 τ) ∧ (∀ (c47 : 880 ≤ l0), (∀ (c54 : 1423 < l0), Q 0 τ) ∧ (∀ (c54 : l0 ≤ 1423), (∀ (c61 : l0 = 894), Q 0 τ) ∧ (∀ (c61 : ¬ l0 = 894), (∀ (c68 : l0 = 903), Q 0 τ) ∧ (∀ (c68 : ¬ l0 = 903), (∀ (c75 : l0 < 1154), Q 1 τ) ∧ (∀ (c75 : 1154 ≤ l0), (∀ (c82 : l0 ≤ 1161), Q 0 τ) ∧ (∀ (c82 : 1161 < l0), Q 1 τ))))))) : W_wIsLetter_43 l0 τ Q := sorry
def w_wIsDigit (l0 : Int) (τ : TT) (Q : Int → TT → Prop) : Prop := Hid (TC yX11_wIsDigit cX11_wIsDigit 1 (some .boolean) 0 (rZ Q) (fun o => [(0, l0)]) τ)
set_option maxHeartbeats 2000000 in
theorem s_wIsDigit {l0 : Int} {τ : TT} {Q : Int → TT → Prop} (hB : (-2147483648 ≤ l0 ∧ l0 < 2147483648) ∧ (∀ (c3 : l0 < 48), Q 0 τ) ∧ (∀ (c3 : 48 ≤ l0), (∀ (c9 : 57 < l0), Q 0 τ) ∧ (∀ (c9 : l0 ≤ 57), Q 1 τ))) : w_wIsDigit l0 τ Q := sorry
