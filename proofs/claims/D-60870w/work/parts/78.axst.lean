/-! 77.aa.lean.txt -/
/-! segments -/
set_option maxRecDepth 100000
def w2_X16_init (ω : AO) (d G : Nat) (l0 l1 l2 : Int) (Θ : Th) (Q : Th → Prop) : Prop := Hid (∀ S, bel S → R2 ω S Θ → Ctr ω yX16_init cX16_init 3 none d G [(2, l0), (0, l1), (2, l2)] S (eU S (q2U ω Θ Q)))
def w2_X16_flags (ω : AO) (d G : Nat) (l0 : Int) (Θ : Th) (Q : Int → Th → Prop) : Prop := Hid (∀ S, bel S → R2 ω S Θ → Ctr ω yX16_flags cX16_flags 3 (some .int) d G [(2, l0)] S (eI S (q2 ω Θ Q)))
def w2_X16_isThere (ω : AO) (d G : Nat) (l0 : Int) (Θ : Th) (Q : Int → Th → Prop) : Prop := Hid (∀ S, bel S → R2 ω S Θ → Ctr ω yX16_isThere cX16_isThere 1 (some .boolean) d G [(2, l0)] S (eZ S (q2 ω Θ Q)))
def w2_X16_flagTags (ω : AO) (d G : Nat) (l0 : Int) (Θ : Th) (Q : Int → Th → Prop) : Prop := Hid (∀ S, bel S → R2 ω S Θ → Ctr ω yX16_flagTags cX16_flagTags 4 (some .int) d G [(2, l0)] S (eI S (q2 ω Θ Q)))
def w2_X16_time (ω : AO) (d G : Nat) (l0 : Int) (Θ : Th) (Q : Int → Th → Prop) : Prop := Hid (∀ S, bel S → R2 ω S Θ → Ctr ω yX16_time cX16_time 1 (some .long) d G [(2, l0)] S (eL S (q2 ω Θ Q)))
def w2_X16_isBehind (ω : AO) (d G : Nat) (l0 l1 l2 : Int) (Θ : Th) (Q : Int → Th → Prop) : Prop := Hid (∀ S, bel S → R2 ω S Θ → Ctr ω yX16_isBehind cX16_isBehind 4 (some .boolean) d G [(2, l0), (2, l1), (0, l2)] S (eZ S (q2 ω Θ Q)))
def w2_X16_add (ω : AO) (d G : Nat) (l0 l1 l2 : Int) (Θ : Th) (Q : Th → Prop) : Prop := Hid (∀ S, bel S → R2 ω S Θ → Ctr ω yX16_add cX16_add 4 none d G [(2, l0), (2, l1), (0, l2)] S (eU S (q2U ω Θ Q)))
def w2_X16_isElsewhere (ω : AO) (d G : Nat) (l0 : Int) (Θ : Th) (Q : Int → Th → Prop) : Prop := Hid (∀ S, bel S → R2 ω S Θ → Ctr ω yX16_isElsewhere cX16_isElsewhere 3 (some .boolean) d G [(2, l0)] S (eZ S (q2 ω Θ Q)))
def w2_X51_init (ω : AO) (d G : Nat) (l0 l1 : Int) (Θ : Th) (Q : Th → Prop) : Prop := Hid (∀ S, bel S → R2 ω S Θ → Ctr ω yX51_init cX51_init 2 none d G [(2, l0), (2, l1)] S (eU S (q2U ω Θ Q)))
def w2_X51_take (ω : AO) (d G : Nat) (l0 : Int) (Θ : Th) (Q : Int → Th → Prop) : Prop := Hid (∀ S, bel S → R2 ω S Θ → Ctr ω yX51_take cX51_take 5 (some .long) d G [(2, l0)] S (eL S (q2 ω Θ Q)))
def w2_X49_init (ω : AO) (d G : Nat) (l0 : Int) (Θ : Th) (Q : Th → Prop) : Prop := Hid (∀ S, bel S → R2 ω S Θ → Ctr ω yX49_init cX49_init 1 none d G [(2, l0)] S (eU S (q2U ω Θ Q)))
def w2_X49_begin (ω : AO) (d G : Nat) (l0 l1 l2 : Int) (Θ : Th) (Q : Int → Th → Prop) : Prop := Hid (∀ S, bel S → R2 ω S Θ → Ctr ω yX49_begin cX49_begin 3 (some (.object "MailWorks$Segment")) d G [(2, l0), (0, l1), (2, l2)] S (eA S (q2 ω Θ Q)))
def w2_X49_add (ω : AO) (d G : Nat) (l0 l1 l2 : Int) (Θ : Th) (Q : Th → Prop) : Prop := Hid (∀ S, bel S → R2 ω S Θ → Ctr ω yX49_add cX49_add 6 none d G [(2, l0), (2, l1), (2, l2)] S (eU S (q2U ω Θ Q)))
def w2_X49_read (ω : AO) (d G : Nat) (l0 l1 l2 l3 : Int) (Θ : Th) (Q : Th → Prop) : Prop := Hid (∀ S, bel S → R2 ω S Θ → Ctr ω yX49_read cX49_read 10 none d G [(2, l0), (0, l1), (2, l2), (2, l3)] S (eU S (q2U ω Θ Q)))
theorem lm_X16_11 : ILk RX16 11 yJ7_init cJ7_init 1 0 := sorry
theorem lf_X16_12_29 : FLk RX16 12 29 4 (.object "java/util/ArrayList") true := sorry
theorem ln_X16_20 : NLk RX16 20 yX17_init cX17_init 1 none 0 := sorry
theorem lf_X16_21_29 : FLk RX16 21 29 5 (.object "MailWorks$Sorted") true := sorry
theorem lf_X16_25_29 : FLk RX16 25 29 6 (.object "java/util/ArrayList") true := sorry
theorem lf_X16_28_29 : FLk RX16 28 29 9 .int false := sorry
theorem lf_X16_32_29 : FLk RX16 32 29 0 .int true := sorry
theorem lr_X16_35_28 : FLkR RX16 35 28 0 (.object "java/lang/String") := sorry
theorem lf_X16_41_29 : FLk RX16 41 29 1 (.object "java/lang/String") true := sorry
theorem lr_X16_42_28 : FLkR RX16 42 28 1 (.object "java/lang/String") := sorry
theorem lf_X16_45_29 : FLk RX16 45 29 2 (.object "java/lang/String") false := sorry
theorem lr_X16_12_29 : FLkR RX16 12 29 4 (.object "java/util/ArrayList") := sorry
theorem lm_X16_50 : VLk RX16 50 3 yJ7_size cJ7_size 1 (some .int) 0 := sorry
theorem lm_X16_54 : VLk RX16 54 3 yJ7_get cJ7_get 2 (some (.object "java/lang/Object")) 1 := sorry
theorem lm_X16_71 : VLk RX16 71 31 yX18_file cX18_file 1 (some (.object "MailWorks$Stored")) 0 := sorry
theorem lr_X16_89_26 : FLkR RX16 89 26 1 (.object "MailWorks$Label") := sorry
theorem lr_X16_93_27 : FLkR RX16 93 27 1 .int := sorry
theorem lm_X16_46 : VLk RX16 46 3 yJ7_isEmpty cJ7_isEmpty 1 (some .boolean) 0 := sorry
theorem lm_X16_98 : VLk RX16 98 29 yX16_flags cX16_flags 3 (some .int) 0 := sorry
theorem lm_X16_102 : VLk RX16 102 2 yJ2_length cJ2_length 1 (some .int) 0 := sorry
theorem lm_X16_111 : VLk RX16 111 29 yX16_isThere cX16_isThere 1 (some .boolean) 0 := sorry
theorem lm_X16_107 : VLk RX16 107 2 yJ2_charAt cJ2_charAt 2 (some .char) 1 := sorry
theorem lr_X16_118_29 : FLkR RX16 118 29 3 (.object "MailWorks$Content") := sorry
theorem lr_X16_122_32 : FLkR RX16 122 32 11 .long := sorry
theorem lr_X16_75_26 : FLkR RX16 75 26 0 (.object "java/lang/String") := sorry
theorem lm_X16_80 : SLk RX16 80 yX12_order cX12_order 3 (some .int) 2 := sorry
theorem lm_X16_86 : VLk RX16 86 31 yX18_message cX18_message 1 (some .int) 0 := sorry
theorem lm_X16_60 : SLk RX16 60 yX16_isBehind cX16_isBehind 4 (some .boolean) 3 := sorry
theorem lm_X16_64 : ILk RX16 64 yX18_init cX18_init 3 2 := sorry
theorem lm_X16_67 : VLk RX16 67 3 yJ7_add_3 cJ7_add_3 5 none 2 := sorry
theorem lr_X16_25_29 : FLkR RX16 25 29 6 (.object "java/util/ArrayList") := sorry
theorem lm_X16_114 : VLk RX16 114 3 yJ7_contains cJ7_contains 2 (some .boolean) 1 := sorry
theorem lf_X51_7_56 : FLk RX51 7 56 0 (.object "MailWorks$Store") true := sorry
theorem lr_X51_7_56 : FLkR RX51 7 56 0 (.object "MailWorks$Store") := sorry
theorem lg_X51_13_55 : FLkN RX51 13 55 0 (.array .byte) false := sorry
theorem lr_X51_19_56 : FLkR RX51 19 56 1 .int := sorry
theorem lf_X51_19_56 : FLk RX51 19 56 1 .int false := sorry
theorem lm_X49_11 : ILk RX49 11 yJ7_init cJ7_init 1 0 := sorry
theorem lf_X49_12_54 : FLk RX49 12 54 2 (.object "java/util/ArrayList") true := sorry
theorem lf_X49_18_54 : FLk RX49 18 54 3 (.array .int) false := sorry
theorem ln_X49_24 : NLk RX49 24 yX50_init cX50_init 1 none 0 := sorry
theorem lf_X49_25_54 : FLk RX49 25 54 4 (.object "MailWorks$Store") true := sorry
theorem lr_X49_25_54 : FLkR RX49 25 54 4 (.object "MailWorks$Store") := sorry
theorem lm_X49_31 : ILk RX49 31 yX51_init cX51_init 2 1 := sorry
theorem lf_X49_34_54 : FLk RX49 34 54 5 (.object "MailWorks$Walk") true := sorry
theorem lf_X49_38_54 : FLk RX49 38 54 0 .int false := sorry
theorem lf_X49_42_54 : FLk RX49 42 54 1 (.object "java/util/ArrayList") false := sorry
theorem lr_X49_12_54 : FLkR RX49 12 54 2 (.object "java/util/ArrayList") := sorry
theorem lm_X49_45 : VLk RX49 45 3 yJ7_clear cJ7_clear 4 none 0 := sorry
theorem lg_X49_48_55 : FLkN RX49 48 55 1 .int false := sorry
theorem lf_X49_51_54 : FLk RX49 51 54 6 .int false := sorry
theorem lf_X49_54_54 : FLk RX49 54 54 7 .int false := sorry
theorem lm_X49_57 : VLk RX49 57 3 yJ7_size cJ7_size 1 (some .int) 0 := sorry
theorem lr_X49_18_54 : FLkR RX49 18 54 3 (.array .int) := sorry
theorem lm_X49_61 : SLk RX49 61 yJ11_copyOf_5 cJ11_copyOf_5 3 (some (.array Jvm.ClassFile.FieldType.int)) 2 := sorry
theorem lm_X49_67 : VLk RX49 67 3 yJ7_add cJ7_add 2 (some .boolean) 1 := sorry
theorem lg_X49_71_23 : FLkN RX49 71 23 1 .int false := sorry
theorem lm_X49_74 : VLk RX49 74 55 yX50_put cX50_put 5 none 1 := sorry
theorem lm_X49_82 : VLk RX49 82 2 yJ2_charAt cJ2_charAt 2 (some .char) 1 := sorry
theorem lr_X49_51_54 : FLkR RX49 51 54 6 .int := sorry
theorem lr_X49_54_54 : FLkR RX49 54 54 7 .int := sorry
theorem lg_X49_78_23 : FLkN RX49 78 23 0 (.array .long) false := sorry
theorem lr_X49_34_54 : FLkR RX49 34 54 5 (.object "MailWorks$Walk") := sorry
theorem lg_X49_88_56 : FLkN RX49 88 56 1 .int false := sorry
theorem lm_X49_91 : VLk RX49 91 56 yX51_take cX51_take 5 (some .long) 0 := sorry
theorem lm_X49_97 : VLk RX49 97 22 yX8_get cX8_get 2 (some .boolean) 1 := sorry
theorem lm_X49_103 : VLk RX49 103 23 yX9_add cX9_add 3 none 1 := sorry
set_option maxHeartbeats 4000000 in
theorem s2_X16_init {ω : AO} {d G : Nat} {l0 l1 l2 : Int} {Θ : Th} {Q : Th → Prop} (hB : (1 ≤ d) ∧ (0 ≤ l0) ∧ (0 + 1 ≤ G) ∧ ∀ (v5 : Int) (Θ5 : Th) (u5 : nt Θ ≤ v5 ∧ 0 ≤ v5) (b5 : Bl Θ) (t5 : Θ5 = nu Θ v5 (203, [], 0, 0)), (4 ≤ d) ∧ ∀ (k9 : Int) (Θ9 : Th) (t9 : Θ9 = uq Θ5 v5 (3, [], 0, k9)), (kd Θ9 l0 = 29) ∧ (¬ fz Θ9 l0) ∧ ∀ (Θ12 : Th) (t12 : Θ12 = pf Θ9 l0 4 v5), (0 + 1 + 1 ≤ G) ∧ ∀ (v16 : Int) (Θ16 : Th) (u16 : nt Θ12 ≤ v16 ∧ 0 ≤ v16) (b16 : Bl Θ12) (t16 : Θ16 = nu Θ12 v16 (30, [-1, -1], 0, 0)), ∃ G20 : Nat, (0 + 1 + 1 + G20 ≤ G) ∧ w2_X17_init ω (d - 1) G20 v16 Θ16 (fun Θ20 => ∀ (L20 : Le Θ16 Θ20), (¬ fz Θ20 l0) ∧ ∀ (Θ23 : Th) (t23 : Θ23 = pf Θ20 l0 5 v16), (0 + 1 + 1 + G20 + 1 ≤ G) ∧ ∀ (v27 : Int) (Θ27 : Th) (u27 : nt Θ23 ≤ v27 ∧ 0 ≤ v27) (b27 : Bl Θ23) (t27 : Θ27 = nu Θ23 v27 (203, [], 0, 0)), ∀ (k31 : Int) (Θ31 : Th) (t31 : Θ31 = uq Θ27 v27 (3, [], 0, k31)), (¬ fz Θ31 l0) ∧ ∀ (Θ34 : Th) (t34 : Θ34 = pf Θ31 l0 6 v27), (¬ fz Θ34 l0) ∧ ∀ (Θ39 : Th) (t39 : Θ39 = pf Θ34 l0 9 (-1)), (¬ fz Θ39 l0) ∧ (-2147483648 ≤ l1 ∧ l1 < 2147483648) ∧ ∀ (Θ44 : Th) (t44 : Θ44 = pf Θ39 l0 0 l1), (kd Θ44 l2 = 28) ∧ ∀ (v49 : Int) (e49 : v49 = gt (vv Θ44 l2) 0) (r49 : -1 ≤ v49), (¬ fz Θ44 l0) ∧ ∀ (Θ52 : Th) (t52 : Θ52 = pf Θ44 l0 1 v49), ∀ (v57 : Int) (e57 : v57 = gt (vv Θ52 l2) 1) (r57 : -1 ≤ v57), (¬ fz Θ52 l0) ∧ ∀ (Θ60 : Th) (t60 : Θ60 = pf Θ52 l0 2 v57), Q Θ60)) : w2_X16_init ω d G l0 l1 l2 Θ Q := sorry
def W2_X16_flags_4 (ω : AO) (d G : Nat) (l0 l1 l2 : Int) (g : Nat) (Θ : Th) (Q : Int → Th → Prop) : Prop := Hid (SJ2 ω yX16_flags cX16_flags 3 (some .int) d G (fun Sz Θz => (eI Sz (q2 ω Θz Q))) 4 [(2, l0), (0, l1), (0, l2)] [] g Θ)
set_option maxHeartbeats 4000000 in
theorem s2_X16_flags {ω : AO} {d G : Nat} {l0 : Int} {Θ : Th} {Q : Int → Th → Prop} (hB : W2_X16_flags_4 ω d G l0 0 0 (0) Θ Q) : w2_X16_flags ω d G l0 Θ Q := sorry
set_option maxHeartbeats 4000000 in
theorem s2_X16_flags_4 {ω : AO} {d G : Nat} {l0 l1 l2 : Int} {g : Nat} {Θ : Th} {Q : Int → Th → Prop} (hB : (kd Θ l0 = 29) ∧ ∀ (v6 : Int) (e6 : v6 = gt (vv Θ l0) 4) (r6 : -1 ≤ v6), (1 ≤ d) ∧ (kd Θ v6 = 3) ∧ (g ≤ G) ∧ ∀ (x9 : Int) (e9 : x9 = len (vv Θ v6)) (r9 : -2147483648 ≤ x9 ∧ x9 < 2147483648), (-2147483648 ≤ l2 ∧ l2 < 2147483648) ∧ (∀ (c12 : x9 ≤ l2), (-2147483648 ≤ l1 ∧ l1 < 2147483648) ∧ Q l1 Θ) ∧ (∀ (c12 : l2 < x9), ∀ (v17 : Int) (e17 : v17 = gt (vv Θ l0) 4) (r17 : -1 ≤ v17), (kd Θ v17 = 3) ∧ (0 ≤ l2 ∧ l2 < len (vv Θ v17)) ∧ (3 ≤ d) ∧ ∀ (x21 : Int) (e21 : x21 = gt (vv Θ v17) l2) (r21 : -1 ≤ x21), (x21 < 0 ∨ kd Θ x21 ∈ [31]) ∧ (kd Θ x21 = 31) ∧ ∃ G27 : Nat, (g + G27 ≤ G) ∧ w2_X18_file ω (d - 1) G27 x21 Θ (fun x27 Θ27 => ∀ (L27 : Le Θ Θ27) (r27 : -1 ≤ x27), (kd Θ27 x27 = 26) ∧ ∀ (v30 : Int) (e30 : v30 = gt (vv Θ27 x27) 1) (r30 : -1 ≤ v30), (kd Θ27 v30 = 27) ∧ ∀ (v33 : Int) (e33 : v33 = gt (vv Θ27 v30) 1) (r33 : -2147483648 ≤ v33 ∧ v33 < 2147483648), W2_X16_flags_4 ω d G l0 ((orI l1 v33)) ((l2 + 1)) (g + G27) Θ27 Q))) : W2_X16_flags_4 ω d G l0 l1 l2 g Θ Q := sorry
set_option maxHeartbeats 4000000 in
theorem s2_X16_isThere {ω : AO} {d G : Nat} {l0 : Int} {Θ : Th} {Q : Int → Th → Prop} (hB : (kd Θ l0 = 29) ∧ ∀ (v1 : Int) (e1 : v1 = gt (vv Θ l0) 4) (r1 : -1 ≤ v1), (1 ≤ d) ∧ (kd Θ v1 = 3) ∧ ∀ (x4 : Int) (e4 : x4 = if vv Θ v1 = [] then 1 else 0) (r4 : x4 = 0 ∨ x4 = 1), (∀ (c7 : ¬ x4 = 0), Q 0 Θ) ∧ (∀ (c7 : x4 = 0), Q 1 Θ)) : w2_X16_isThere ω d G l0 Θ Q := sorry
def W2_X16_flagTags_9 (ω : AO) (d G : Nat) (l0 l1 l2 l3 : Int) (g : Nat) (Θ : Th) (Q : Int → Th → Prop) : Prop := Hid (SJ2 ω yX16_flagTags cX16_flagTags 4 (some .int) d G (fun Sz Θz => (eI Sz (q2 ω Θz Q))) 9 [(2, l0), (0, l1), (0, l2), (0, l3)] [] g Θ)
set_option maxHeartbeats 4000000 in
theorem s2_X16_flagTags {ω : AO} {d G : Nat} {l0 : Int} {Θ : Th} {Q : Int → Th → Prop} (hB : (1 ≤ d) ∧ (kd Θ l0 = 29) ∧ ∃ G1 : Nat, (0 + G1 ≤ G) ∧ w2_X16_flags ω (d - 1) G1 l0 Θ (fun x1 Θ1 => ∀ (L1 : Le Θ Θ1) (r1 : -2147483648 ≤ x1 ∧ x1 < 2147483648), W2_X16_flagTags_9 ω d G l0 x1 0 0 (0 + G1) Θ1 Q)) : w2_X16_flagTags ω d G l0 Θ Q := sorry
set_option maxHeartbeats 4000000 in
theorem s2_X16_flagTags_9 {ω : AO} {d G : Nat} {l0 l1 l2 l3 : Int} {g : Nat} {Θ : Th} {Q : Int → Th → Prop} (hB : ∀ (v10 : Int) (h10 : Str Θ v10 [83, 70, 82, 84, 68, 80]), (1 ≤ d) ∧ (2 ≤ d) ∧ (g ≤ G) ∧ ∀ (x12 : Int) (e12 : x12 = len (vv Θ v10)) (r12 : -2147483648 ≤ x12 ∧ x12 < 2147483648), (-2147483648 ≤ l3 ∧ l3 < 2147483648) ∧ (∀ (c15 : x12 ≤ l3), (kd Θ l0 = 29) ∧ ∃ G43 : Nat, (g + G43 ≤ G) ∧ w2_X16_isThere ω (d - 1) G43 l0 Θ (fun x43 Θ43 => ∀ (L43 : Le Θ Θ43) (r43 : x43 = 0 ∨ x43 = 1), (∀ (c46 : x43 = 0), (g + G43 ≤ G) ∧ Q 0 Θ43) ∧ (∀ (c46 : ¬ x43 = 0), (g + G43 ≤ G) ∧ Q (xorI l2 1) Θ43))) ∧ (∀ (c15 : l3 < x12), ∀ (v20 : Int) (h20 : Str Θ v20 [83, 70, 82, 84, 68, 80]), (0 ≤ l3 ∧ l3 < len (vv Θ v20)) ∧ (5 ≤ d) ∧ ∀ (x23 : Int) (e23 : x23 = gt (vv Θ v20) l3) (r23 : 0 ≤ x23 ∧ x23 < 65536), W2_X16_flagTags_9 ω d G l0 l1 ((orI l2 (shlI ((shrI l1 (x23 - 65)) % 2) l3))) ((l3 + 1)) (g) Θ Q)) : W2_X16_flagTags_9 ω d G l0 l1 l2 l3 g Θ Q := sorry
set_option maxHeartbeats 4000000 in
theorem s2_X16_time {ω : AO} {d G : Nat} {l0 : Int} {Θ : Th} {Q : Int → Th → Prop} (hB : (kd Θ l0 = 29) ∧ ∀ (v1 : Int) (e1 : v1 = gt (vv Θ l0) 3) (r1 : -1 ≤ v1), (kd Θ v1 = 32) ∧ ∀ (v4 : Int) (e4 : v4 = gt (vv Θ v1) 11) (r4 : -9223372036854775808 ≤ v4 ∧ v4 < 9223372036854775808), Q v4 Θ) : w2_X16_time ω d G l0 Θ Q := sorry
set_option maxHeartbeats 4000000 in
theorem s2_X16_isBehind {ω : AO} {d G : Nat} {l0 l1 l2 : Int} {Θ : Th} {Q : Int → Th → Prop} (hB : (1 ≤ d) ∧ (kd Θ l0 = 31) ∧ ∃ G1 : Nat, (0 + G1 ≤ G) ∧ w2_X18_file ω (d - 1) G1 l0 Θ (fun x1 Θ1 => ∀ (L1 : Le Θ Θ1) (r1 : -1 ≤ x1), (kd Θ1 x1 = 26) ∧ ∀ (v4 : Int) (e4 : v4 = gt (vv Θ1 x1) 0) (r4 : -1 ≤ v4), (kd Θ1 l1 = 26) ∧ ∀ (v8 : Int) (e8 : v8 = gt (vv Θ1 l1) 0) (r8 : -1 ≤ v8), (kd Θ1 v4 = 2) ∧ (kd Θ1 v8 = 2) ∧ (6 ≤ d) ∧ (0 + G1 ≤ G) ∧ ∀ (x11 : Int) (e11 : x11 = cmpL (vv Θ1 v4) (vv Θ1 v8)) (r11 : -2147483648 ≤ x11 ∧ x11 < 2147483648), (∀ (c16 : 0 < x11), Q 1 Θ1) ∧ (∀ (c16 : x11 ≤ 0), (∀ (c20 : ¬ x11 = 0), Q 0 Θ1) ∧ (∀ (c20 : x11 = 0), ∃ G24 : Nat, (0 + G1 + G24 ≤ G) ∧ w2_X18_message ω (d - 1) G24 l0 Θ1 (fun x24 Θ24 => ∀ (L24 : Le Θ1 Θ24) (r24 : -2147483648 ≤ x24 ∧ x24 < 2147483648), (-2147483648 ≤ l2 ∧ l2 < 2147483648) ∧ (∀ (c28 : x24 ≤ l2), (0 + G1 + G24 ≤ G) ∧ Q 0 Θ24) ∧ (∀ (c28 : l2 < x24), (0 + G1 + G24 ≤ G) ∧ Q 1 Θ24)))))) : w2_X16_isBehind ω d G l0 l1 l2 Θ Q := sorry
def W2_X16_add_8 (ω : AO) (d G : Nat) (l0 l1 l2 l3 : Int) (g : Nat) (Θ : Th) (Q : Th → Prop) : Prop := Hid (SJ2 ω yX16_add cX16_add 4 none d G (fun Sz Θz => (eU Sz (q2U ω Θz Q))) 8 [(2, l0), (2, l1), (0, l2), (0, l3)] [] g Θ)
def W2_X16_add_39 (ω : AO) (d G : Nat) (l0 l1 l2 l3 : Int) (g : Nat) (Θ : Th) (Q : Th → Prop) : Prop := Hid (SJ2 ω yX16_add cX16_add 4 none d G (fun Sz Θz => (eU Sz (q2U ω Θz Q))) 39 [(2, l0), (2, l1), (0, l2), (0, l3)] [] g Θ)
set_option maxHeartbeats 4000000 in
theorem s2_X16_add {ω : AO} {d G : Nat} {l0 l1 l2 : Int} {Θ : Th} {Q : Th → Prop} (hB : (kd Θ l0 = 29) ∧ ∀ (v1 : Int) (e1 : v1 = gt (vv Θ l0) 4) (r1 : -1 ≤ v1), (1 ≤ d) ∧ (kd Θ v1 = 3) ∧ ∀ (x4 : Int) (e4 : x4 = len (vv Θ v1)) (r4 : -2147483648 ≤ x4 ∧ x4 < 2147483648), W2_X16_add_8 ω d G l0 l1 l2 x4 (0) Θ Q) : w2_X16_add ω d G l0 l1 l2 Θ Q := sorry
set_option maxHeartbeats 4000000 in
theorem s2_X16_add_8 {ω : AO} {d G : Nat} {l0 l1 l2 l3 : Int} {g : Nat} {Θ : Th} {Q : Th → Prop} (hB : (-2147483648 ≤ l3 ∧ l3 < 2147483648) ∧ (∀ (c9 : l3 ≤ 0), W2_X16_add_39 ω d G l0 l1 l2 l3 (g) Θ Q) ∧ (∀ (c9 : 0 < l3), (kd Θ l0 = 29) ∧ ∀ (v13 : Int) (e13 : v13 = gt (vv Θ l0) 4) (r13 : -1 ≤ v13), (1 ≤ d) ∧ (kd Θ v13 = 3) ∧ (0 ≤ (l3 - 1) ∧ (l3 - 1) < len (vv Θ v13)) ∧ (3 ≤ d) ∧ (g ≤ G) ∧ ∀ (x19 : Int) (e19 : x19 = gt (vv Θ v13) (l3 - 1)) (r19 : -1 ≤ x19), (x19 < 0 ∨ kd Θ x19 ∈ [31]) ∧ ∃ G27 : Nat, (g + G27 ≤ G) ∧ w2_X16_isBehind ω (d - 1) G27 x19 l1 l2 Θ (fun x27 Θ27 => ∀ (L27 : Le Θ Θ27) (r27 : x27 = 0 ∨ x27 = 1), (∀ (c30 : x27 = 0), W2_X16_add_39 ω d G l0 l1 l2 l3 (g + G27) Θ27 Q) ∧ (∀ (c30 : ¬ x27 = 0), W2_X16_add_8 ω d G l0 l1 l2 ((l3 + (-1))) (g + G27) Θ27 Q)))) : W2_X16_add_8 ω d G l0 l1 l2 l3 g Θ Q := sorry
set_option maxHeartbeats 4000000 in
theorem s2_X16_add_39 {ω : AO} {d G : Nat} {l0 l1 l2 l3 : Int} {g : Nat} {Θ : Th} {Q : Th → Prop} (hB : (kd Θ l0 = 29) ∧ ∀ (v40 : Int) (e40 : v40 = gt (vv Θ l0) 4) (r40 : -1 ≤ v40), (g + 1 ≤ G) ∧ ∀ (v44 : Int) (Θ44 : Th) (u44 : nt Θ ≤ v44 ∧ 0 ≤ v44) (b44 : Bl Θ) (t44 : Θ44 = nu Θ v44 (31, [-1, 0], 0, 0)), (1 ≤ d) ∧ ∃ G50 : Nat, (g + 1 + G50 ≤ G) ∧ w2_X18_init ω (d - 1) G50 v44 l1 l2 Θ44 (fun Θ50 => ∀ (L50 : Le Θ44 Θ50), (kd Θ50 v40 = 3) ∧ (¬ fz Θ50 v40) ∧ (rf Θ50 v44) ∧ (adC (cp Θ50 v40) (len (vv Θ50 v40)) ≤ 60000000) ∧ (0 ≤ l3 ∧ l3 ≤ len (vv Θ50 v40)) ∧ (7 ≤ d) ∧ (g + 1 + G50 + (adC (cp Θ50 v40) (len (vv Θ50 v40)) - cp Θ50 v40).toNat ≤ G) ∧ ∀ (k53 : Int) (Θ53 : Th) (t53 : Θ53 = uq Θ50 v40 (3, ins (vv Θ50 v40) l3 v44, adC (cp Θ50 v40) (len (vv Θ50 v40)), k53)), Q Θ53)) : W2_X16_add_39 ω d G l0 l1 l2 l3 g Θ Q := sorry
def W2_X16_isElsewhere_4 (ω : AO) (d G : Nat) (l0 l1 l2 : Int) (g : Nat) (Θ : Th) (Q : Int → Th → Prop) : Prop := Hid (SJ2 ω yX16_isElsewhere cX16_isElsewhere 3 (some .boolean) d G (fun Sz Θz => (eZ Sz (q2 ω Θz Q))) 4 [(2, l0), (0, l1), (0, l2)] [] g Θ)
def W2_X16_isElsewhere_50 (ω : AO) (d G : Nat) (l0 l2 : Int) (g : Nat) (Θ : Th) (Q : Int → Th → Prop) : Prop := Hid (SJ2 ω yX16_isElsewhere cX16_isElsewhere 3 (some .boolean) d G (fun Sz Θz => (eZ Sz (q2 ω Θz Q))) 50 [(2, l0), vN, (0, l2)] [] g Θ)
set_option maxHeartbeats 4000000 in
theorem s2_X16_isElsewhere {ω : AO} {d G : Nat} {l0 : Int} {Θ : Th} {Q : Int → Th → Prop} (hB : W2_X16_isElsewhere_4 ω d G l0 1 0 (0) Θ Q) : w2_X16_isElsewhere ω d G l0 Θ Q := sorry
set_option maxHeartbeats 4000000 in
theorem s2_X16_isElsewhere_4 {ω : AO} {d G : Nat} {l0 l1 l2 : Int} {g : Nat} {Θ : Th} {Q : Int → Th → Prop} (hB : (kd Θ l0 = 29) ∧ ∀ (v6 : Int) (e6 : v6 = gt (vv Θ l0) 4) (r6 : -1 ≤ v6), (1 ≤ d) ∧ (kd Θ v6 = 3) ∧ (g ≤ G) ∧ ∀ (x9 : Int) (e9 : x9 = len (vv Θ v6)) (r9 : -2147483648 ≤ x9 ∧ x9 < 2147483648), (-2147483648 ≤ l2 ∧ l2 < 2147483648) ∧ (∀ (c12 : x9 ≤ l2), (l1 = 0 ∨ l1 = 1) ∧ Q l1 Θ) ∧ (∀ (c12 : l2 < x9), (-2147483648 ≤ l1 ∧ l1 < 2147483648) ∧ (∀ (c16 : l1 = 0), W2_X16_isElsewhere_50 ω d G l0 l2 (g) Θ Q) ∧ (∀ (c16 : ¬ l1 = 0), ∀ (v20 : Int) (e20 : v20 = gt (vv Θ l0) 6) (r20 : -1 ≤ v20), ∀ (v24 : Int) (e24 : v24 = gt (vv Θ l0) 4) (r24 : -1 ≤ v24), (kd Θ v24 = 3) ∧ (0 ≤ l2 ∧ l2 < len (vv Θ v24)) ∧ (3 ≤ d) ∧ ∀ (x28 : Int) (e28 : x28 = gt (vv Θ v24) l2) (r28 : -1 ≤ x28), (x28 < 0 ∨ kd Θ x28 ∈ [31]) ∧ (kd Θ x28 = 31) ∧ ∃ G34 : Nat, (g + G34 ≤ G) ∧ w2_X18_file ω (d - 1) G34 x28 Θ (fun x34 Θ34 => ∀ (L34 : Le Θ Θ34) (r34 : -1 ≤ x34), (kd Θ34 x34 = 26) ∧ ∀ (v37 : Int) (e37 : v37 = gt (vv Θ34 x34) 0) (r37 : -1 ≤ v37), (kd Θ34 v20 = 3) ∧ ∃ G40 : Nat, (g + G34 + G40 ≤ G) ∧ w2_J7_contains ω (d - 1) G40 v20 v37 Θ34 (fun x40 Θ40 => ∀ (L40 : Le Θ34 Θ40) (r40 : x40 = 0 ∨ x40 = 1), (∀ (c43 : ¬ x40 = 0), W2_X16_isElsewhere_50 ω d G l0 l2 (g + G34 + G40) Θ40 Q) ∧ (∀ (c43 : x40 = 0), W2_X16_isElsewhere_4 ω d G l0 1 ((l2 + 1)) (g + G34 + G40) Θ40 Q)))))) : W2_X16_isElsewhere_4 ω d G l0 l1 l2 g Θ Q := sorry
set_option maxHeartbeats 4000000 in
theorem s2_X16_isElsewhere_50 {ω : AO} {d G : Nat} {l0 l2 : Int} {g : Nat} {Θ : Th} {Q : Int → Th → Prop} (hB : W2_X16_isElsewhere_4 ω d G l0 0 ((l2 + 1)) (g) Θ Q) : W2_X16_isElsewhere_50 ω d G l0 l2 g Θ Q := sorry
set_option maxHeartbeats 4000000 in
theorem s2_X51_init {ω : AO} {d G : Nat} {l0 l1 : Int} {Θ : Th} {Q : Th → Prop} (hB : (1 ≤ d) ∧ (0 ≤ l0) ∧ (kd Θ l0 = 56) ∧ (¬ fz Θ l0) ∧ (-1 ≤ l1) ∧ ∀ (Θ6 : Th) (t6 : Θ6 = pf Θ l0 0 l1), Q Θ6) : w2_X51_init ω d G l0 l1 Θ Q := sorry
def W2_X51_take_4 (ω : AO) (d G : Nat) (l0 l1 l3 : Int) (g : Nat) (Θ : Th) (Q : Int → Th → Prop) : Prop := Hid (SJ2 ω yX51_take cX51_take 5 (some .long) d G (fun Sz Θz => (eL Sz (q2 ω Θz Q))) 4 [(2, l0), (1, l1), vN, (0, l3), vN] [] g Θ)
set_option maxHeartbeats 4000000 in
theorem s2_X51_take {ω : AO} {d G : Nat} {l0 : Int} {Θ : Th} {Q : Int → Th → Prop} (hB : W2_X51_take_4 ω d G l0 0 0 (0) Θ Q) : w2_X51_take ω d G l0 Θ Q := sorry
set_option maxHeartbeats 4000000 in
theorem s2_X51_take_4 {ω : AO} {d G : Nat} {l0 l1 l3 : Int} {g : Nat} {Θ : Th} {Q : Int → Th → Prop} (hB : (kd Θ l0 = 56) ∧ ∀ (v5 : Int) (e5 : v5 = gt (vv Θ l0) 0) (r5 : -1 ≤ v5), (kd Θ v5 = 55) ∧ ∀ (v12 : Int) (e12 : v12 = gt (vv Θ l0) 1) (r12 : -2147483648 ≤ v12 ∧ v12 < 2147483648), (0 ≤ v12 ∧ v12 < len (vv Θ v5)) ∧ ∀ (v15 : Int) (e15 : v15 = gt (vv Θ v5) v12) (r15 : -128 ≤ v15 ∧ v15 < 128), ∀ (v20 : Int) (e20 : v20 = gt (vv Θ l0) 1) (r20 : -2147483648 ≤ v20 ∧ v20 < 2147483648), (¬ fz Θ l0) ∧ (-2147483648 ≤ (v20 + 1) ∧ (v20 + 1) < 2147483648) ∧ ∀ (Θ25 : Th) (t25 : Θ25 = pf Θ l0 1 (v20 + 1)), (∀ (c44 : v15 < 0), W2_X51_take_4 ω d G l0 ((orL l1 (shlL (v15 % 128) l3))) ((l3 + 7)) (g) Θ25 Q) ∧ (∀ (c44 : 0 ≤ v15), (g ≤ G) ∧ Q (orL l1 (shlL (v15 % 128) l3)) Θ25)) : W2_X51_take_4 ω d G l0 l1 l3 g Θ Q := sorry
set_option maxHeartbeats 4000000 in
theorem s2_X49_init {ω : AO} {d G : Nat} {l0 : Int} {Θ : Th} {Q : Th → Prop} (hB : (1 ≤ d) ∧ (0 ≤ l0) ∧ (0 + 1 ≤ G) ∧ ∀ (v5 : Int) (Θ5 : Th) (u5 : nt Θ ≤ v5 ∧ 0 ≤ v5) (b5 : Bl Θ) (t5 : Θ5 = nu Θ v5 (203, [], 0, 0)), (4 ≤ d) ∧ ∀ (k9 : Int) (Θ9 : Th) (t9 : Θ9 = uq Θ5 v5 (3, [], 0, k9)), (kd Θ9 l0 = 54) ∧ (¬ fz Θ9 l0) ∧ ∀ (Θ12 : Th) (t12 : Θ12 = pf Θ9 l0 2 v5), (0 + 1 + 5 ≤ G) ∧ ∀ (v18 : Int) (Θ18 : Th) (u18 : nt Θ12 ≤ v18 ∧ 0 ≤ v18) (b18 : Bl Θ12) (t18 : Θ18 = nu Θ12 v18 (104, List.replicate ((16 : Int)).toNat 0, 0, 0)), (¬ fz Θ18 l0) ∧ ∀ (Θ20 : Th) (t20 : Θ20 = pf Θ18 l0 3 v18), (0 + 1 + 5 + 1 ≤ G) ∧ ∀ (v24 : Int) (Θ24 : Th) (u24 : nt Θ20 ≤ v24 ∧ 0 ≤ v24) (b24 : Bl Θ20) (t24 : Θ24 = nu Θ20 v24 (255, [], 0, 0)), (2 ≤ d) ∧ (0 + 1 + 5 + 1 + 14 ≤ G) ∧ ∀ (Θ28 : Th) (t28 : Θ28 = uq Θ24 v24 (55, [], 64, 0)), (¬ fz Θ28 l0) ∧ ∀ (Θ31 : Th) (t31 : Θ31 = pf Θ28 l0 4 v24), (0 + 1 + 5 + 1 + 14 + 1 ≤ G) ∧ ∀ (v35 : Int) (Θ35 : Th) (u35 : nt Θ31 ≤ v35 ∧ 0 ≤ v35) (b35 : Bl Θ31) (t35 : Θ35 = nu Θ31 v35 (56, [-1, 0], 0, 0)), ∀ (v40 : Int) (e40 : v40 = gt (vv Θ35 l0) 4) (r40 : -1 ≤ v40), ∃ G43 : Nat, (0 + 1 + 5 + 1 + 14 + 1 + G43 ≤ G) ∧ w2_X51_init ω (d - 1) G43 v35 v40 Θ35 (fun Θ43 => ∀ (L43 : Le Θ35 Θ43), (¬ fz Θ43 l0) ∧ ∀ (Θ46 : Th) (t46 : Θ46 = pf Θ43 l0 5 v35), (0 + 1 + 5 + 1 + 14 + 1 + G43 ≤ G) ∧ Q Θ46)) : w2_X49_init ω d G l0 Θ Q := sorry
set_option maxHeartbeats 4000000 in
theorem s2_X49_begin {ω : AO} {d G : Nat} {l0 l1 l2 : Int} {Θ : Th} {Q : Int → Th → Prop} (hB : (kd Θ l0 = 54) ∧ (¬ fz Θ l0) ∧ (-2147483648 ≤ l1 ∧ l1 < 2147483648) ∧ ∀ (Θ2 : Th) (t2 : Θ2 = pf Θ l0 0 l1), (¬ fz Θ2 l0) ∧ (-1 ≤ l2) ∧ ∀ (Θ7 : Th) (t7 : Θ7 = pf Θ2 l0 1 l2), ∀ (v11 : Int) (e11 : v11 = gt (vv Θ7 l0) 2) (r11 : -1 ≤ v11), (1 ≤ d) ∧ (kd Θ7 v11 = 3) ∧ (¬ fz Θ7 v11) ∧ (2 ≤ d) ∧ ∀ (k14 : Int) (Θ14 : Th) (t14 : Θ14 = uq Θ7 v11 (3, [], cp Θ7 v11, k14)), ∀ (v18 : Int) (e18 : v18 = gt (vv Θ14 l0) 4) (r18 : -1 ≤ v18), (kd Θ14 v18 = 55) ∧ (¬ fz Θ14 v18) ∧ (0 ≤ (0 : Int) ∧ 0 ≤ len (vv Θ14 v18)) ∧ ∀ (Θ22 : Th) (t22 : Θ22 = pm Θ14 v18 0), (¬ fz Θ22 l0) ∧ ∀ (Θ27 : Th) (t27 : Θ27 = pf Θ22 l0 6 0), (¬ fz Θ27 l0) ∧ ∀ (Θ32 : Th) (t32 : Θ32 = pf Θ27 l0 7 0), (-1 ≤ l0) ∧ Q l0 Θ32) : w2_X49_begin ω d G l0 l1 l2 Θ Q := sorry
def W2_X49_add_33 (ω : AO) (d G : Nat) (l0 l1 l2 : Int) (g : Nat) (Θ : Th) (Q : Th → Prop) : Prop := Hid (SJ2 ω yX49_add cX49_add 6 none d G (fun Sz Θz => (eU Sz (q2U ω Θz Q))) 33 [(2, l0), (2, l1), (2, l2), vN, vN, vN] [] g Θ)
def W2_X49_add_78 (ω : AO) (d G : Nat) (l0 l1 l2 l3 l5 : Int) (g : Nat) (Θ : Th) (Q : Th → Prop) : Prop := Hid (SJ2 ω yX49_add cX49_add 6 none d G (fun Sz Θz => (eU Sz (q2U ω Θz Q))) 78 [(2, l0), (2, l1), (2, l2), (1, l3), vN, (0, l5)] [] g Θ)
set_option maxHeartbeats 4000000 in
theorem s2_X49_add {ω : AO} {d G : Nat} {l0 l1 l2 : Int} {Θ : Th} {Q : Th → Prop} (hB : (kd Θ l0 = 54) ∧ ∀ (v1 : Int) (e1 : v1 = gt (vv Θ l0) 2) (r1 : -1 ≤ v1), (1 ≤ d) ∧ (kd Θ v1 = 3) ∧ ∀ (x4 : Int) (e4 : x4 = len (vv Θ v1)) (r4 : -2147483648 ≤ x4 ∧ x4 < 2147483648), ∀ (v8 : Int) (e8 : v8 = gt (vv Θ l0) 3) (r8 : -1 ≤ v8), (kd Θ v8 = 104) ∧ ∀ (v11 : Int) (e11 : v11 = len (vv Θ v8)) (r11 : 0 ≤ v11 ∧ v11 < 2147483648), (∀ (c12 : ¬ x4 = v11), W2_X49_add_33 ω d G l0 l1 l2 (0) Θ Q) ∧ (∀ (c12 : x4 = v11), ∀ (v17 : Int) (e17 : v17 = gt (vv Θ l0) 3) (r17 : -1 ≤ v17), ∀ (v22 : Int) (e22 : v22 = gt (vv Θ l0) 3) (r22 : -1 ≤ v22), (kd Θ v22 = 104) ∧ ∀ (v25 : Int) (e25 : v25 = len (vv Θ v22)) (r25 : 0 ≤ v25 ∧ v25 < 2147483648), ∃ G27 : Nat, (0 + G27 ≤ G) ∧ w2_J11_copyOf_5 ω (d - 1) G27 v17 (2 * v25) Θ (fun x27 Θ27 => ∀ (L27 : Le Θ Θ27) (r27 : -1 ≤ x27), (¬ fz Θ27 l0) ∧ (-1 ≤ x27) ∧ ∀ (Θ30 : Th) (t30 : Θ30 = pf Θ27 l0 3 x27), W2_X49_add_33 ω d G l0 l1 l2 (0 + G27) Θ30 Q))) : w2_X49_add ω d G l0 l1 l2 Θ Q := sorry
set_option maxHeartbeats 4000000 in
theorem s2_X49_add_33 {ω : AO} {d G : Nat} {l0 l1 l2 : Int} {g : Nat} {Θ : Th} {Q : Th → Prop} (hB : (kd Θ l0 = 54) ∧ ∀ (v34 : Int) (e34 : v34 = gt (vv Θ l0) 3) (r34 : -1 ≤ v34), ∀ (v38 : Int) (e38 : v38 = gt (vv Θ l0) 2) (r38 : -1 ≤ v38), (1 ≤ d) ∧ (kd Θ v38 = 3) ∧ (g ≤ G) ∧ ∀ (x41 : Int) (e41 : x41 = len (vv Θ v38)) (r41 : -2147483648 ≤ x41 ∧ x41 < 2147483648), ∀ (v45 : Int) (e45 : v45 = gt (vv Θ l0) 4) (r45 : -1 ≤ v45), (kd Θ v45 = 55) ∧ ∀ (v48 : Int) (e48 : v48 = len (vv Θ v45)) (r48 : -2147483648 ≤ v48 ∧ v48 < 2147483648), (kd Θ v34 = 104) ∧ (¬ fz Θ v34) ∧ (0 ≤ x41 ∧ x41 < len (vv Θ v34)) ∧ ∀ (Θ51 : Th) (t51 : Θ51 = pf Θ v34 x41 v48), ∀ (v53 : Int) (e53 : v53 = gt (vv Θ51 l0) 2) (r53 : -1 ≤ v53), (kd Θ51 v53 = 3) ∧ (¬ fz Θ51 v53) ∧ (rf Θ51 l1) ∧ (adC (cp Θ51 v53) (len (vv Θ51 v53)) ≤ 60000000) ∧ (7 ≤ d) ∧ (g + (adC (cp Θ51 v53) (len (vv Θ51 v53)) - cp Θ51 v53).toNat ≤ G) ∧ ∀ (k57 : Int) (Θ57 : Th) (t57 : Θ57 = uq Θ51 v53 (3, vv Θ51 v53 ++ [l1], adC (cp Θ51 v53) (len (vv Θ51 v53)), k57)), ∀ (v62 : Int) (e62 : v62 = gt (vv Θ57 l0) 4) (r62 : -1 ≤ v62), (kd Θ57 l2 = 23) ∧ ∀ (v66 : Int) (e66 : v66 = len (vv Θ57 l2)) (r66 : -2147483648 ≤ v66 ∧ v66 < 2147483648), (kd Θ57 v62 = 55) ∧ ∃ G70 : Nat, (g + (adC (cp Θ51 v53) (len (vv Θ51 v53)) - cp Θ51 v53).toNat + G70 ≤ G) ∧ w2_X50_put ω (d - 1) G70 v62 v66 Θ57 (fun Θ70 => ∀ (L70 : Le Θ57 Θ70), W2_X49_add_78 ω d G l0 l1 l2 0 0 (g + (adC (cp Θ51 v53) (len (vv Θ51 v53)) - cp Θ51 v53).toNat + G70) Θ70 Q)) : W2_X49_add_33 ω d G l0 l1 l2 g Θ Q := sorry
set_option maxHeartbeats 4000000 in
theorem s2_X49_add_78 {ω : AO} {d G : Nat} {l0 l1 l2 l3 l5 : Int} {g : Nat} {Θ : Th} {Q : Th → Prop} (hB : (kd Θ l2 = 23) ∧ ∀ (v81 : Int) (e81 : v81 = len (vv Θ l2)) (r81 : -2147483648 ≤ v81 ∧ v81 < 2147483648), (-2147483648 ≤ l5 ∧ l5 < 2147483648) ∧ (∀ (c84 : v81 ≤ l5), (1 ≤ d) ∧ (kd Θ l1 = 2) ∧ (0 ≤ (0 : Int) ∧ (0 : Int) < len (vv Θ l1)) ∧ (5 ≤ d) ∧ (g ≤ G) ∧ ∀ (x119 : Int) (e119 : x119 = gt (vv Θ l1) (0 : Int)) (r119 : 0 ≤ x119 ∧ x119 < 65536), (∀ (c124 : ¬ x119 = 115), (kd Θ l0 = 54) ∧ ∀ (v130 : Int) (e130 : v130 = gt (vv Θ l0) 6) (r130 : -2147483648 ≤ v130 ∧ v130 < 2147483648), (¬ fz Θ l0) ∧ (-2147483648 ≤ (v130 + 1) ∧ (v130 + 1) < 2147483648) ∧ ∀ (Θ135 : Th) (t135 : Θ135 = pf Θ l0 6 (v130 + 1)), ∀ (v140 : Int) (e140 : v140 = gt (vv Θ135 l0) 7) (r140 : -2147483648 ≤ v140 ∧ v140 < 2147483648), ∀ (v144 : Int) (e144 : v144 = len (vv Θ135 l2)) (r144 : -2147483648 ≤ v144 ∧ v144 < 2147483648), (¬ fz Θ135 l0) ∧ (-2147483648 ≤ (v140 + v144) ∧ (v140 + v144) < 2147483648) ∧ ∀ (Θ148 : Th) (t148 : Θ148 = pf Θ135 l0 7 (v140 + v144)), Q Θ148) ∧ (∀ (c124 : x119 = 115), Q Θ)) ∧ (∀ (c84 : l5 < v81), (kd Θ l0 = 54) ∧ ∀ (v88 : Int) (e88 : v88 = gt (vv Θ l0) 4) (r88 : -1 ≤ v88), (0 ≤ l5 ∧ l5 < len (vv Θ l2)) ∧ ∀ (v97 : Int) (e97 : v97 = gt (vv Θ l2) l5) (r97 : -9223372036854775808 ≤ v97 ∧ v97 < 9223372036854775808), (1 ≤ d) ∧ (kd Θ v88 = 55) ∧ ∃ G100 : Nat, (g + G100 ≤ G) ∧ w2_X50_put ω (d - 1) G100 v88 (v97 - l3) Θ (fun Θ100 => ∀ (L100 : Le Θ Θ100), (0 ≤ l5 ∧ l5 < len (vv Θ100 l2)) ∧ ∀ (v109 : Int) (e109 : v109 = gt (vv Θ100 l2) l5) (r109 : -9223372036854775808 ≤ v109 ∧ v109 < 9223372036854775808), W2_X49_add_78 ω d G l0 l1 l2 v109 ((l5 + 1)) (g + G100) Θ100 Q))) : W2_X49_add_78 ω d G l0 l1 l2 l3 l5 g Θ Q := sorry
def W2_X49_read_28 (ω : AO) (d G : Nat) (l0 l2 l3 l4 l6 l8 : Int) (g : Nat) (Θ : Th) (Q : Th → Prop) : Prop := Hid (SJ2 ω yX49_read cX49_read 10 none d G (fun Sz Θz => (eU Sz (q2U ω Θz Q))) 28 [(2, l0), vN, (2, l2), (2, l3), (1, l4), vN, (1, l6), vN, (1, l8), vN] [] g Θ)
def W2_X49_read_68 (ω : AO) (d G : Nat) (l0 l2 l3 l4 l6 l8 : Int) (g : Nat) (Θ : Th) (Q : Th → Prop) : Prop := Hid (SJ2 ω yX49_read cX49_read 10 none d G (fun Sz Θz => (eU Sz (q2U ω Θz Q))) 68 [(2, l0), vN, (2, l2), (2, l3), (1, l4), vN, (1, l6), vN, (1, l8), vN] [] g Θ)
set_option maxHeartbeats 4000000 in
theorem s2_X49_read {ω : AO} {d G : Nat} {l0 l1 l2 l3 : Int} {Θ : Th} {Q : Th → Prop} (hB : (kd Θ l0 = 54) ∧ ∀ (v1 : Int) (e1 : v1 = gt (vv Θ l0) 5) (r1 : -1 ≤ v1), ∀ (v5 : Int) (e5 : v5 = gt (vv Θ l0) 3) (r5 : -1 ≤ v5), (kd Θ v5 = 104) ∧ (0 ≤ l1 ∧ l1 < len (vv Θ v5)) ∧ ∀ (v9 : Int) (e9 : v9 = gt (vv Θ v5) l1) (r9 : -2147483648 ≤ v9 ∧ v9 < 2147483648), (kd Θ v1 = 56) ∧ (¬ fz Θ v1) ∧ ∀ (Θ10 : Th) (t10 : Θ10 = pf Θ v1 1 v9), ∀ (v14 : Int) (e14 : v14 = gt (vv Θ10 l0) 5) (r14 : -1 ≤ v14), (1 ≤ d) ∧ (kd Θ10 v14 = 56) ∧ ∃ G17 : Nat, (0 + G17 ≤ G) ∧ w2_X51_take ω (d - 1) G17 v14 Θ10 (fun x17 Θ17 => ∀ (L17 : Le Θ10 Θ17) (r17 : -9223372036854775808 ≤ x17 ∧ x17 < 9223372036854775808), W2_X49_read_28 ω d G l0 l2 l3 x17 0 0 (0 + G17) Θ17 Q)) : w2_X49_read ω d G l0 l1 l2 l3 Θ Q := sorry
set_option maxHeartbeats 4000000 in
theorem s2_X49_read_28 {ω : AO} {d G : Nat} {l0 l2 l3 l4 l6 l8 : Int} {g : Nat} {Θ : Th} {Q : Th → Prop} (hB : (-9223372036854775808 ≤ l8 ∧ l8 < 9223372036854775808) ∧ (-9223372036854775808 ≤ l4 ∧ l4 < 9223372036854775808) ∧ (∀ (c33 : l4 ≤ l8), (g ≤ G) ∧ Q Θ) ∧ (∀ (c33 : l8 < l4), (kd Θ l0 = 54) ∧ ∀ (v39 : Int) (e39 : v39 = gt (vv Θ l0) 5) (r39 : -1 ≤ v39), (1 ≤ d) ∧ (kd Θ v39 = 56) ∧ ∃ G42 : Nat, (g + G42 ≤ G) ∧ w2_X51_take ω (d - 1) G42 v39 Θ (fun x42 Θ42 => ∀ (L42 : Le Θ Θ42) (r42 : -9223372036854775808 ≤ x42 ∧ x42 < 9223372036854775808), (-9223372036854775808 ≤ (l6 + x42) ∧ (l6 + x42) < 9223372036854775808) ∧ (kd Θ42 l2 = 22) ∧ ∃ G56 : Nat, (g + G42 + G56 ≤ G) ∧ w2_X8_get ω (d - 1) G56 l2 (Int.tdiv (l6 + x42) 16384) Θ42 (fun x56 Θ56 => ∀ (L56 : Le Θ42 Θ56) (r56 : x56 = 0 ∨ x56 = 1), (∀ (c59 : ¬ x56 = 0), W2_X49_read_68 ω d G l0 l2 l3 l4 ((l6 + x42)) l8 (g + G42 + G56) Θ56 Q) ∧ (∀ (c59 : x56 = 0), (kd Θ56 l3 = 23) ∧ (¬ fz Θ56 l3) ∧ (rwC (cp Θ56 l3) (len (vv Θ56 l3)) ≤ 60000000) ∧ (3 ≤ d) ∧ (g + G42 + G56 + (rwK (cp Θ56 l3) (len (vv Θ56 l3))).toNat ≤ G) ∧ ∀ (Θ65 : Th) (t65 : Θ65 = uq Θ56 l3 (23, vv Θ56 l3 ++ [(l6 + x42)], rwC (cp Θ56 l3) (len (vv Θ56 l3)), cx Θ56 l3)), W2_X49_read_68 ω d G l0 l2 l3 l4 ((l6 + x42)) l8 (g + G42 + G56 + (rwK (cp Θ56 l3) (len (vv Θ56 l3))).toNat) Θ65 Q))))) : W2_X49_read_28 ω d G l0 l2 l3 l4 l6 l8 g Θ Q := sorry
set_option maxHeartbeats 4000000 in
theorem s2_X49_read_68 {ω : AO} {d G : Nat} {l0 l2 l3 l4 l6 l8 : Int} {g : Nat} {Θ : Th} {Q : Th → Prop} (hB : W2_X49_read_28 ω d G l0 l2 l3 l4 l6 ((l8 + 1)) (g) Θ Q) : W2_X49_read_68 ω d G l0 l2 l3 l4 l6 l8 g Θ Q := sorry
/-! 77.ab.lean.txt -/
/-! Store: numbers as bytes; Walk -/
set_option maxRecDepth 100000
theorem i64_nat (z : Int64) (h : z.toBitVec.toNat < 2 ^ 63) : z.toInt = (z.toBitVec.toNat : Int) := sorry
theorem bvn {a : Nat} (h : a < 2 ^ 63) : (BitVec.ofInt 64 (a : Int)).toNat = a := sorry
theorem orL_nat {a b : Nat} (ha : a < 2 ^ 63) (hb : b < 2 ^ 63) : orL (a : Int) (b : Int) = ((a ||| b : Nat) : Int) := sorry
theorem andL_nat {a b : Nat} (ha : a < 2 ^ 63) (hb : b < 2 ^ 63) : andL (a : Int) (b : Int) = ((a &&& b : Nat) : Int) := sorry
theorem shlL_nat {a m : Nat} (hm : m < 64) (h : a * 2 ^ m < 2 ^ 63) : shlL (a : Int) (m : Int) = ((a * 2 ^ m : Nat) : Int) := sorry
theorem ushrL_7 {a : Nat} (ha : a < 2 ^ 63) : ushrL (a : Int) 7 = ((a / 128 : Nat) : Int) := sorry
theorem andL_7 {a : Nat} (ha : a < 2 ^ 63) : andL (a : Int) 127 = ((a % 128 : Nat) : Int) := sorry
/-- a number as bytes, seven bits each -/
def vbF (x : Int) : List Int := if h : 127 < x then (x % 128 - 128) :: vbF (x / 128) else [x]
termination_by x.toNat
decreasing_by omega
theorem vbF_big {x : Int} (h : 127 < x) : vbF x = (x % 128 - 128) :: vbF (x / 128) := by rw [vbF, dif_pos h]
theorem vbF_sm {x : Int} (h : ¬ 127 < x) : vbF x = [x] := by rw [vbF, dif_neg h]
theorem vbF_len {x : Int} : 0 < (vbF x).length := sorry
theorem rwN_z {c n : Int} : rwN c n 0 = c := rfl
theorem rwN_p {c n : Int} : ∀ k : Nat, rwN c n (k + 1) = rwN (rwC c n) (n + 1) k := sorry
section STO
variable {ω : AO} {d G g : Nat} {S S' S1 S2 : AS} {a c k x v : Int} {l m : List Int}
theorem t_st31 {QV : AS → Prop} (h : RowS ω S 55 101 a l c) (hlt : len l < c) (hc : c ≤ 60000000) (hx : 0 ≤ x ∧ x < 9223372036854775808) (hQ : ∀ S', RowS ω S' 55 101 a (l ++ [if 127 < x then x % 128 - 128 else x]) c → BKp ω S S' a → (127 < x → W_X50_put_2 ω d G a (x / 128) g S' QV) ∧ (¬ 127 < x → g ≤ G ∧ QV S')) : W_X50_put_31 ω d G a x g S QV := sorry
theorem t_X50_put {QV : AS → Prop} (hd : 2 ≤ d) : ∀ (N : Nat) (x : Int) (g : Nat) (S : AS) (l : List Int) (c : Int), x.toNat = N → 0 ≤ x → x < 9223372036854775808 → RowS ω S 55 101 a l c → bo ω ≤ nx S → 8 ≤ c → len l ≤ c → rwN c (len l) (vbF x).length ≤ 60000000 → (g : Int) + (rwN c (len l) (vbF x).length - c) ≤ (G : Int) →
    (∀ S', RowS ω S' 55 101 a (l ++ vbF x) (rwN c (len l) (vbF x).length) → BKp ω S S' a → QV S') → W_X50_put_2 ω d G a x g S QV := sorry
end STO
section STL
variable {ω : AO} {d G g : Nat} {Θ Θ1 : Th} {a c e k x v st : Int} {l post : List Int}
theorem u_X50_put {Q : Th → Prop} (hd : 2 ≤ d) (h : xo Θ a = (55, l, c, e)) (hf : ¬ fz Θ a) (hx : 0 ≤ x ∧ x < 9223372036854775808) (hc : 8 ≤ c ∧ len l ≤ c ∧ rwN c (len l) (vbF x).length ≤ 60000000) (hG : rwN c (len l) (vbF x).length - c ≤ (G : Int)) (hQ : ∀ Θ', Θ' = uq Θ a (55, l ++ vbF x, rwN c (len l) (vbF x).length, e) → Q Θ') : w2_X50_put ω d G a x Θ Q := sorry
theorem u_X51_init {Q : Th → Prop} (hd : 1 ≤ d) (h : xo Θ a = (56, [-1, 0], 0, 0)) (hf : ¬ fz Θ a) (hs : -1 ≤ st) (hQ : ∀ Θ', GrX (· = a) Θ Θ' → xo Θ' a = (56, [st, 0], 0, 0) → ¬ fz Θ' a → Q Θ') : w2_X51_init ω d G a st Θ Q := sorry
theorem take_or {y acc : Int} {m : Nat} (hm : m ≤ 56) (y0 : 0 ≤ y) (y1 : y < 128) (a0 : 0 ≤ acc) (a1 : acc < ((2 ^ m : Nat) : Int)) : orL acc (shlL y (m : Int)) = acc + y * ((2 ^ m : Nat) : Int) := sorry
/-- how a number is read -/
theorem u_take {Q : Int → Th → Prop} (hs : xo Θ st = (55, l, c, e)) (hsa : st ≠ a) (x : Int) : ∀ (n m : Nat) (y acc k : Int) (Θ1 : Th) (g : Nat), m + 7 * (n + 1) = 63 → 0 ≤ y → y < ((128 ^ (n + 1) : Nat) : Int) → 0 ≤ acc → acc < ((2 ^ m : Nat) : Int) → x = acc + y * ((2 ^ m : Nat) : Int) → GrX (· = a) Θ Θ1 → xo Θ1 a = (56, [st, k], 0, 0) → ¬ fz Θ1 a → 0 ≤ k → k ≤ 2000000000 → l.drop k.toNat = vbF y ++ post → g ≤ G → len l ≤ 2000000000 →
    (∀ Θ', GrX (· = a) Θ Θ' → xo Θ' a = (56, [st, k + len (vbF y)], 0, 0) → ¬ fz Θ' a → Q x Θ') → W2_X51_take_4 ω d G a acc (m : Int) g Θ1 Q := sorry
theorem u_X51_take {Q : Int → Th → Prop} (h : xo Θ a = (56, [st, k], 0, 0)) (hf : ¬ fz Θ a) (hs : xo Θ st = (55, l, c, e)) (hx : 0 ≤ x ∧ x < 9223372036854775808) (k0 : 0 ≤ k) (hl : len l ≤ 2000000000) (hdr : l.drop k.toNat = vbF x ++ post) (hk : k ≤ 2000000000)
    (hQ : ∀ Θ', GrX (· = a) Θ Θ' → xo Θ' a = (56, [st, k + len (vbF x)], 0, 0) → ¬ fz Θ' a → Q x Θ') : w2_X51_take ω d G a Θ Q := sorry
end STL

/-! 77.ac.lean.txt -/
/-! rows of numbers: copyOf; segments -/
set_option maxRecDepth 100000
section CPI
variable {ω : AO} {d G : Nat} {S S' : AS} {Θ : Th} {a v n : Int} {l : List Int}
theorem t_J11_copyI {Q : Int → AS → Prop} (hd : 1 ≤ d) (ht : tg S v = 104) (hn : ln S v < n ∧ n ≤ 60000000) (h0 : 0 ≤ ln S v) (hG : n.toNat / 5 + 2 ≤ G) (hb : bo ω ≤ nx S)
    (hQ : ∀ S', Kp S S' (fun _ => False) → tg S' (nx S) = 104 → ln S' (nx S) = n → (∀ k, 0 ≤ k → k < n → ct S' (nx S) k = if k < ln S v then ct S v k else 0) → nx S' = nx S + 1 → Q (nx S) S') : w_J11_copyOf_5 ω d G v n S Q := sorry
theorem u_J11_copyOf_5 {Q : Int → Th → Prop} (hd : 1 ≤ d) (h : xo Θ a = (104, l, 0, 0)) (hn : len l < n ∧ n ≤ 60000000) (hG : n.toNat / 5 + 2 ≤ G) (hQ : ∀ r Θ', Θ' = nu Θ r (104, l ++ List.replicate (n - len l).toNat 0, 0, 0) → nt Θ ≤ r → Bl Θ → Q r Θ') : w2_J11_copyOf_5 ω d G a n Θ Q := sorry
end CPI
/-- hits as bytes -/
def encD : Int → List Int → List Int
  | _, [] => []
  | p, x :: r => vbF (x - p) ++ encD x r
def encE (l : List Int) : List Int := vbF (len l) ++ encD 0 l
abbrev SgV : Type := List (List Int × List Int)
def encS : SgV → List Int
  | [] => []
  | p :: r => encE p.2 ++ encS r
theorem encS_app : ∀ {a b : SgV}, encS (a ++ b) = encS a ++ encS b := sorry
theorem encS_one {p : List Int × List Int} : encS [p] = encE p.2 := List.append_nil _
/-- how many words that are no stems, and how many hits of them -/
def sgD : SgV → Int
  | [] => 0
  | p :: r => (if gt p.1 0 = 115 then 0 else 1) + sgD r
def sgT : SgV → Int
  | [] => 0
  | p :: r => (if gt p.1 0 = 115 then 0 else len p.2) + sgT r
theorem sgD_app : ∀ {a b : SgV}, sgD (a ++ b) = sgD a + sgD b := sorry
theorem sgT_app : ∀ {a b : SgV}, sgT (a ++ b) = sgT a + sgT b := sorry
theorem sgD_in : ∀ {a : SgV}, 0 ≤ sgD a ∧ sgD a ≤ (a.length : Int) := sorry
theorem sgT_nn : ∀ {a : SgV}, 0 ≤ sgT a := sorry
/-- hits in order -/
def asc : Int → List Int → Prop
  | _, [] => True
  | p, x :: r => p ≤ x ∧ x < 9000000000000000000 ∧ asc x r
theorem rwN_ad2 {c n : Int} : ∀ (j k : Nat), rwN c n (j + k) = rwN (rwN c n j) (n + (j : Int)) k := sorry
section SEG
variable {ω : AO} {d G g : Nat} {Θ Θ1 Θ2 : Th} {s wl sa bs wk lv dc k cw ca cb w h ch eh : Int} {W : SgV} {t l : List Int}
/-- a segment -/
def SgO (Θ : Th) (s wl sa bs wk lv dc k : Int) (W : SgV) (cw ca cb : Int) : Prop :=
  ∃ rs ew la eb, xo Θ s = (54, [lv, dc, wl, sa, bs, wk, sgD W, sgT W], 0, 0) ∧ ¬ fz Θ s ∧ xo Θ wl = (3, rs, cw, ew) ∧ ¬ fz Θ wl ∧ all2 (Str Θ) rs (W.map (·.1)) ∧ xo Θ sa = (104, la, 0, 0) ∧ ¬ fz Θ sa ∧ len la = ca ∧ (∀ i : Nat, i < W.length → gt la (i : Int) = len (encS (W.take i))) ∧
    xo Θ bs = (55, encS W, cb, eb) ∧ ¬ fz Θ bs ∧ xo Θ wk = (56, [bs, k], 0, 0) ∧ ¬ fz Θ wk ∧ ((W.length : Int) ≤ ca ∧ 16 ≤ ca) ∧ (8 ≤ cb ∧ len (encS W) ≤ cb)
abbrev exG (s wl sa bs : Int) : Int → Prop := fun z => z = s ∨ z = wl ∨ z = sa ∨ z = bs
theorem SgO.hk (H : SgO Θ s wl sa bs wk lv dc k W cw ca cb) : kd Θ s = 54 ∧ kd Θ wl = 3 ∧ kd Θ sa = 104 ∧ kd Θ bs = 55 ∧ kd Θ wk = 56 := sorry
theorem SgO.keep {ex : Int → Prop} (H : SgO Θ s wl sa bs wk lv dc k W cw ca cb) (g : GrX ex Θ Θ1) (n1 : ¬ ex s) (n2 : ¬ ex wl) (n3 : ¬ ex sa) (n4 : ¬ ex bs) (n5 : ¬ ex wk) : SgO Θ1 s wl sa bs wk lv dc k W cw ca cb := sorry
/-- the hits are put, one after the other -/
theorem u_sg78 {Q : Th → Prop} {F : List Int} {eb CF : Int} {TT : List Int} (hd : 6 ≤ d) (hs : xo Θ s = (54, F, 0, 0)) (hsf : ¬ fz Θ s) (hF : gt F 4 = bs) (hw : Str Θ w t) (ht : 0 < len t) (hh : xo Θ h = (23, l, ch, eh)) (hl : len l ≤ 1000000) (hn6 : 0 ≤ gt F 6 ∧ gt F 6 ≤ 1000000) (hn7 : 0 ≤ gt F 7 ∧ gt F 7 ≤ 1000000000) (nsb : s ≠ bs) (nhb : h ≠ bs) (hCF : CF ≤ 60000000) (hkb : kd Θ bs = 55)
    (hQ : ∀ Θ', GrX (fun z => z = s ∨ z = bs) Θ Θ' → xo Θ' s = (54, if gt t 0 = 115 then F else (F.set 6 (gt F 6 + 1)).set 7 (gt F 7 + len l), 0, 0) → ¬ fz Θ' s → xo Θ' bs = (55, TT, CF, eb) → ¬ fz Θ' bs → Q Θ') (hF8 : F.length = 8) :
    ∀ (N : Nat) (i prev : Int) (cur : List Int) (cb : Int) (g : Nat) (Θ1 : Th), (len l - i).toNat = N → 0 ≤ i → i ≤ len l → 0 ≤ prev → GrX (· = bs) Θ Θ1 → xo Θ1 bs = (55, cur, cb, eb) → ¬ fz Θ1 bs → cur ++ encD prev (l.drop i.toNat) = TT → 8 ≤ cb → len cur ≤ cb → rwN cb (len cur) (encD prev (l.drop i.toNat)).length = CF → asc prev (l.drop i.toNat) → (g : Int) + (CF - cb) ≤ (G : Int) → W2_X49_add_78 ω d G s w h prev i g Θ1 Q := sorry
theorem u_X49_add {Q : Th → Prop} (hd : 8 ≤ d) (H : SgO Θ s wl sa bs wk lv dc k W cw ca cb) (hw : Str Θ w t) (ht : 0 < len t) (hh : xo Θ h = (23, l, ch, eh)) (hl : len l ≤ 1000000) (hW : (W.length : Int) ≤ 1000000 ∧ sgT W ≤ 1000000000) (hcw : adC cw (W.length : Int) ≤ 60000000 ∧ ca ≤ 10000000) (hlb : len (encS W) ≤ 50000000) (ha : asc 0 l) (hCF : rwN cb (len (encS W)) (encE l).length ≤ 60000000)
    (hG : (if (W.length : Int) = ca then 2 * ca / 5 + 2 else 0) + (adC cw (W.length : Int) - cw) + (rwN cb (len (encS W)) (encE l).length - cb) ≤ (G : Int))
    (hcc : cw ≤ adC cw (W.length : Int))
    (hQ : ∀ Θ' sa', GrX (exG s wl sa bs) Θ Θ' → (sa' = sa ∨ kd Θ sa' = 0) → SgO Θ' s wl sa' bs wk lv dc k (W ++ [(t, l)]) (adC cw (W.length : Int)) (if (W.length : Int) = ca then 2 * ca else ca) (rwN cb (len (encS W)) (encE l).length) → Q Θ') : w2_X49_add ω d G s w h Θ Q := sorry
end SEG

/-! 77.ad.lean.txt -/
/-! segments: made, begun, read -/
set_option maxRecDepth 100000
section SGI
variable {ω : AO} {d G g : Nat} {Θ Θ1 Θ2 : Th} {s wl sa bs wk lv dc k cw ca cb w h ch eh lv' dc' : Int} {W : SgV} {t l : List Int}
theorem SgO.old0 (H : SgO Θ1 s wl sa bs wk lv dc k W cw ca cb) : s ≠ wl ∧ s ≠ sa ∧ s ≠ bs ∧ s ≠ wk ∧ wl ≠ sa ∧ wl ≠ bs ∧ wl ≠ wk ∧ sa ≠ bs ∧ sa ≠ wk ∧ bs ≠ wk := sorry
theorem u_X49_init {Q : Th → Prop} (hd : 4 ≤ d) (h : xo Θ s = (54, [0, -1, -1, -1, -1, -1, 0, 0], 0, 0)) (hf : ¬ fz Θ s) (hG : 22 ≤ G)
    (hQ : ∀ Θ' wl sa bs wk, GrX (· = s) Θ Θ' → kd Θ wl = 0 → kd Θ sa = 0 → kd Θ bs = 0 → kd Θ wk = 0 → SgO Θ' s wl sa bs wk 0 (-1) 0 [] 0 16 64 → Q Θ') : w2_X49_init ω d G s Θ Q := sorry
theorem u_X49_begin {Q : Int → Th → Prop} (hd : 2 ≤ d) (H : SgO Θ s wl sa bs wk lv dc k W cw ca cb) (h0 : -1 ≤ s) (hl : inI lv') (hc : -1 ≤ dc') (hQ : ∀ Θ', GrX (exG s wl sa bs) Θ Θ' → SgO Θ' s wl sa bs wk lv' dc' k [] cw ca cb → Q s Θ') : w2_X49_begin ω d G s lv' dc' Θ Q := sorry
/-- the hits that are read -/
def rdF (f : Int → Bool) (l : List Int) : List Int := l.filter (fun x => !f (x / 16384))
theorem rdF_len {f : Int → Bool} {l : List Int} : (rdF f l).length ≤ l.length := List.length_filter_le _ _
theorem rdF_cons {f : Int → Bool} {x : Int} {l : List Int} : rdF f (x :: l) = if f (x / 16384) = true then rdF f l else x :: rdF f l := sorry
theorem asc_nn : ∀ {l : List Int} {p : Int}, 0 ≤ p → asc p l → ∀ x, x ∈ l → 0 ≤ x := sorry
theorem vbF_in {x : Int} (h : 0 ≤ x ∧ x < 9223372036854775808) : (vbF x).length ≤ 10 := sorry
theorem encS_at : ∀ {W : SgV} {i : Nat} {p : List Int × List Int}, W[i]? = some p → encS W = encS (W.take i) ++ (encE p.2 ++ encS (W.drop (i + 1))) := sorry
section RDS
variable {out tk tc co eo : Int} {lo : List Int} {n : Int} {f : Int → Bool}
theorem u_sg28 {Q : Th → Prop} {F : List Int} {bl post : List Int} {eb L : Int} {CF : Int} {R : List Int} (hd : 4 ≤ d) (hs : xo Θ s = (54, F, 0, 0)) (hF : gt F 5 = wk) (hb : xo Θ bs = (55, bl, cb, eb)) (hbl : len bl ≤ 100000000) (ht : BtO Θ tk tc n f) (hCF : CF ≤ 60000000) (hL : L = len l) (hll : len l ≤ 1000000) (ko : kd Θ out = 23) (kw : kd Θ wk = 56)
    (hQ : ∀ Θ' k', GrX (fun z => z = wk ∨ z = out) Θ Θ' → xo Θ' wk = (56, [bs, k'], 0, 0) → ¬ fz Θ' wk → xo Θ' out = (23, R, CF, eo) → ¬ fz Θ' out → Q Θ') :
    ∀ (N : Nat) (i prev k : Int) (cur : List Int) (c1 : Int) (g : Nat) (Θ1 : Th), (len l - i).toNat = N → 0 ≤ i → i ≤ len l → 0 ≤ prev → prev < 9000000000000000000 → GrX (fun z => z = wk ∨ z = out) Θ Θ1 → xo Θ1 wk = (56, [bs, k], 0, 0) → ¬ fz Θ1 wk → 0 ≤ k → bl.drop k.toNat = encD prev (l.drop i.toNat) ++ post → xo Θ1 out = (23, cur, c1, eo) → ¬ fz Θ1 out → cur ++ rdF f (l.drop i.toNat) = R → 8 ≤ c1 → len cur ≤ c1 → rwN c1 (len cur) (rdF f (l.drop i.toNat)).length = CF → asc prev (l.drop i.toNat) → (∀ x, x ∈ l → x / 16384 ≤ 100000000) → (g : Int) + (CF - c1) ≤ (G : Int) → W2_X49_read_28 ω d G s tk out L prev i g Θ1 Q := sorry
theorem u_X49_read {Q : Th → Prop} {i : Nat} (hd : 5 ≤ d) (H : SgO Θ s wl sa bs wk lv dc k W cw ca cb) (hi : W[i]? = some (t, l)) (ha : asc 0 l) (hll : len l ≤ 1000000) (hx : ∀ x, x ∈ l → x / 16384 ≤ 100000000) (hlb : len (encS W) ≤ 100000000) (ht : BtO Θ tk tc n f) (ho : xo Θ out = (23, lo, co, eo)) (fo : ¬ fz Θ out) (hco : 8 ≤ co ∧ len lo ≤ co) (hCF : rwN co (len lo) (rdF f l).length ≤ 60000000) (hG : rwN co (len lo) (rdF f l).length - co ≤ (G : Int))
    (hQ : ∀ Θ' k', GrX (fun z => z = wk ∨ z = out) Θ Θ' → SgO Θ' s wl sa bs wk lv dc k' W cw ca cb → xo Θ' out = (23, lo ++ rdF f l, rwN co (len lo) (rdF f l).length, eo) → ¬ fz Θ' out → Q Θ') : w2_X49_read ω d G s (i : Int) tk out Θ Q := sorry
end RDS
end SGI

/-! 77.ae.lean.txt -/
/-! what is owned: items with their places -/
set_option maxRecDepth 100000
abbrev It : Type := List Int × (Th → Prop)
/-- an item minds its own places alone -/
def stb (x : It) : Prop := ∀ (Θ Θ1 : Th) (ex : Int → Prop), GrX ex Θ Θ1 → (∀ z, z ∈ x.1 → ¬ ex z) → x.2 Θ → x.2 Θ1
def live (Θ : Th) (F : List Int) : Prop := ∀ z, z ∈ F → 0 < kd Θ z ∧ kd Θ z < 200
def dsj (F F' : List Int) : Prop := ∀ z, z ∈ F → z ∉ F'
def OwS (Θ : Th) (L : List It) : Prop := (∀ x, x ∈ L → x.2 Θ ∧ stb x ∧ live Θ x.1) ∧ L.Pairwise (fun x y => dsj x.1 y.1)
theorem dsj.symm {F F' : List Int} (h : dsj F F') : dsj F' F := fun z hz y => h z y hz
theorem live.gr {ex : Int → Prop} {Θ Θ1 : Th} {F : List Int} (h : live Θ F) (g : GrX ex Θ Θ1) : live Θ1 F := sorry
section OWI
variable {Θ Θ1 Θ2 : Th} {L A B : List It} {x y : It} {ex : Int → Prop} {n : Nat} {a : Int} {c : Cl}
theorem OwS.mem (h : OwS Θ L) (hx : x ∈ L) : x.2 Θ := (h.1 x hx).1
theorem OwS.at (h : OwS Θ L) (hn : L[n]? = some x) : x.2 Θ := h.mem (List.mem_of_getElem? hn)
theorem OwS.liv (h : OwS Θ L) (hx : x ∈ L) : live Θ x.1 := (h.1 x hx).2.2
theorem OwS.nil : OwS Θ [] := sorry
/-- nothing of it is altered -/
theorem OwS.keep (h : OwS Θ L) (g : GrX ex Θ Θ1) (hx : ∀ x, x ∈ L → ∀ z, z ∈ x.1 → ¬ ex z) : OwS Θ1 L := sorry
theorem OwS.gr (h : OwS Θ L) (g : Gr Θ Θ1) : OwS Θ1 L := h.keep g (fun _ _ _ _ y => y)
/-- one item more -/
theorem OwS.cons (h : OwS Θ L) (h1 : x.2 Θ) (h2 : stb x) (h3 : live Θ x.1) (h4 : ∀ y, y ∈ L → dsj x.1 y.1) : OwS Θ (x :: L) := sorry
/-- an item that is new since -/
theorem OwS.add (h : OwS Θ L) (g : Gr Θ Θ1) (h1 : x.2 Θ1) (h2 : stb x) (h3 : live Θ1 x.1) (h4 : ∀ z, z ∈ x.1 → kd Θ z = 0) : OwS Θ1 (x :: L) := sorry
theorem OwS.perm (h : OwS Θ A) (p : A.Perm B) : OwS Θ B := sorry
theorem OwS.tail (h : OwS Θ (x :: L)) : OwS Θ L := sorry
theorem OwS.head (h : OwS Θ (x :: L)) : x.2 Θ ∧ stb x ∧ live Θ x.1 := h.1 x List.mem_cons_self
theorem OwS.hd (h : OwS Θ (x :: L)) : ∀ y, y ∈ L → dsj x.1 y.1 := (List.pairwise_cons.mp h.2).1
theorem OwS.app (hA : OwS Θ A) (hB : OwS Θ B) (hd : ∀ x, x ∈ A → ∀ y, y ∈ B → dsj x.1 y.1) : OwS Θ (A ++ B) := sorry
theorem OwS.left (h : OwS Θ (A ++ B)) : OwS Θ A := sorry
theorem OwS.right (h : OwS Θ (A ++ B)) : OwS Θ B := sorry
theorem OwS.lr (h : OwS Θ (A ++ B)) : ∀ x, x ∈ A → ∀ y, y ∈ B → dsj x.1 y.1 := (List.pairwise_append.mp h.2).2.2
/-- one item is altered -/
theorem OwS.set : ∀ {L : List It} {n : Nat} {x y : It}, OwS Θ L → L[n]? = some x → GrX ex Θ Θ1 → (∀ z, ex z → 0 < kd Θ z → z ∈ x.1) → y.2 Θ1 → stb y → live Θ1 y.1 → (∀ z, z ∈ y.1 → z ∈ x.1 ∨ kd Θ z = 0) → OwS Θ1 (L.set n y) := sorry
/-- of what is altered nothing is an item's but this one's -/
theorem OwS.not (h : OwS Θ L) {i j : Nat} (hi : L[i]? = some x) (hj : L[j]? = some y) (hn : i ≠ j) : dsj x.1 y.1 := sorry
/-- a plain object -/
def obj (a : Int) (c : Cl) : It := ([a], fun Θ => xo Θ a = c ∧ ¬ fz Θ a)
theorem obj_stb (hc : 0 < c.1) : stb (obj a c) := sorry
theorem obj_live (h : xo Θ a = c) (hc : 0 < c.1 ∧ c.1 < 200) : live Θ [a] := sorry
/-- a plain object takes other contents -/
theorem OwS.put {c' : Cl} (h : OwS Θ L) (hn : L[n]? = some (obj a c)) (hc : 0 < c.1) (hk : c'.1 = c.1) (e : Θ1 = uq Θ a c') : OwS Θ1 (L.set n (obj a c')) ∧ GrX (· = a) Θ Θ1 := sorry
theorem OwS.pfE {t : Nat} {l : List Int} {cc e k v : Int} (h : OwS Θ L) (hn : L[n]? = some (obj a (t, l, cc, e))) (ht : 0 < t) (hp : Θ1 = pf Θ a k v) : OwS Θ1 (L.set n (obj a (t, l.set k.toNat v, cc, e))) ∧ GrX (· = a) Θ Θ1 := sorry
/-- a plain object is made -/
theorem OwS.nuI {c : Cl} (h : OwS Θ L) (B : Bl Θ) (u : nt Θ ≤ a ∧ 0 ≤ a) (hc : 0 < c.1 ∧ c.1 < 200) (e : Θ1 = nu Θ a c) : OwS Θ1 (obj a c :: L) ∧ Gr Θ Θ1 ∧ kd Θ a = 0 := sorry
end OWI

/-! 77.af.lean.txt -/
/-! words with hits: rows in order come together -/
set_option maxRecDepth 100000
def lkS : SgV → List Int → List Int
  | [], _ => []
  | p :: r, t => if p.1 = t then p.2 else lkS r t
def SrW (W : SgV) : Prop := W.Pairwise (fun p q => cmpL p.1 q.1 < 0)
def SgC (W : SgV) : Prop := SrW W ∧ ∀ p, p ∈ W → p.2 ≠ []
theorem cmpL_rf (x : List Int) : cmpL x x = 0 := (cmpL_eq x x).mpr rfl
theorem cmpL_ne {x y : List Int} (h : cmpL x y < 0) : x ≠ y := sorry
theorem cmpL_lt {x y : List Int} (h : cmpL x y ≤ 0) (hn : x ≠ y) : cmpL x y < 0 := sorry
theorem cmpL_let {x y z : List Int} (h : cmpL x y ≤ 0) (h2 : cmpL y z < 0) : cmpL x z < 0 := sorry
theorem lkS_none : ∀ {V : SgV} {t : List Int}, (∀ q, q ∈ V → q.1 ≠ t) → lkS V t = [] := sorry
theorem SrW.hd {p : List Int × List Int} {r : SgV} (h : SrW (p :: r)) : ∀ q, q ∈ r → cmpL p.1 q.1 < 0 := (List.pairwise_cons.mp h).1
theorem SrW.tl {p : List Int × List Int} {r : SgV} (h : SrW (p :: r)) : SrW r := (List.pairwise_cons.mp h).2
theorem SgC.tl {p : List Int × List Int} {r : SgV} (h : SgC (p :: r)) : SgC r := ⟨h.1.tl, fun q hq => h.2 q (List.mem_cons_of_mem _ hq)⟩
theorem SgC.ext : ∀ {W V : SgV}, SgC W → SgC V → (∀ t, lkS W t = lkS V t) → W = V := sorry
/-- the least of the words that come next -/
def lsW : List SgV → Option (List Int)
  | [] => none
  | [] :: R => lsW R
  | (p :: _) :: R => match lsW R with
    | none => some p.1
    | some v => if cmpL v p.1 < 0 then some v else some p.1
def hdB (w : List Int) : SgV → List Int
  | [] => []
  | p :: _ => if p.1 = w then p.2 else []
def tlB (w : List Int) : SgV → SgV
  | [] => []
  | p :: r => if p.1 = w then r else p :: r
def hdH (w : List Int) (R : List SgV) : List Int := R.flatMap (hdB w)
def tlR (w : List Int) (R : List SgV) : List SgV := R.map (tlB w)
def szR (R : List SgV) : Nat := (R.map List.length).sum
def kwm : Nat → List SgV → SgV
  | 0, _ => []
  | n + 1, R => match lsW R with
    | none => []
    | some w => if hdH w R = [] then kwm n (tlR w R) else (w, hdH w R) :: kwm n (tlR w R)
def IsLs (R : List SgV) (w : List Int) : Prop := (∃ r, r ∈ R ∧ ∃ p s, r = p :: s ∧ p.1 = w) ∧ ∀ r, r ∈ R → ∀ p s, r = p :: s → cmpL w p.1 ≤ 0
theorem lsW_none : ∀ {R : List SgV}, lsW R = none → ∀ r, r ∈ R → r = [] := sorry
theorem lsW_some : ∀ {R : List SgV} {w : List Int}, lsW R = some w → IsLs R w := sorry
theorem IsLs.uq {R : List SgV} {v w : List Int} (h1 : IsLs R v) (h2 : IsLs R w) : v = w := sorry
theorem IsLs.eq {R : List SgV} {w : List Int} (h : IsLs R w) : lsW R = some w := sorry
theorem tlB_srt {w : List Int} {r : SgV} (h : SrW r) : SrW (tlB w r) := sorry
theorem tlB_gt {w : List Int} {r : SgV} (h : SrW r) (hl : ∀ p s, r = p :: s → cmpL w p.1 ≤ 0) : ∀ q, q ∈ tlB w r → cmpL w q.1 < 0 := sorry
theorem tlB_mem {w : List Int} {r : SgV} : ∀ q, q ∈ tlB w r → q ∈ r := sorry
theorem tlB_lk {w t : List Int} {r : SgV} (ht : w ≠ t) : lkS (tlB w r) t = lkS r t := sorry
theorem hdB_lk {w : List Int} {r : SgV} (h : SrW r) (hl : ∀ p s, r = p :: s → cmpL w p.1 ≤ 0) : hdB w r = lkS r w := sorry
theorem flat_eq {α β : Type} {f g : α → List β} : ∀ {R : List α}, (∀ r, r ∈ R → f r = g r) → R.flatMap f = R.flatMap g := sorry
theorem tlB_len {w : List Int} {r : SgV} : (tlB w r).length ≤ r.length := sorry
theorem szR_tl {w : List Int} : ∀ {R : List SgV}, szR (tlR w R) ≤ szR R := sorry
theorem szR_lt {w : List Int} : ∀ {R : List SgV}, (∃ r, r ∈ R ∧ ∃ p s, r = p :: s ∧ p.1 = w) → szR (tlR w R) < szR R := sorry
/-- what rows in order come to -/
theorem kwm_law : ∀ (n : Nat) (R : List SgV), szR R ≤ n → (∀ r, r ∈ R → SrW r) → SgC (kwm n R) ∧ (∀ t, lkS (kwm n R) t = R.flatMap (fun r => lkS r t)) ∧ ∀ p, p ∈ kwm n R → ∃ r, r ∈ R ∧ ∃ q, q ∈ r ∧ q.1 = p.1 := sorry
/-! 77.ag.lean.txt -/
/-! ArrayList.indexOf, contains of a String -/
set_option maxRecDepth 100000
def IsIx (ws : List (List Int)) (t : List Int) (r : Int) : Prop := (0 ≤ r ∧ r < (ws.length : Int) ∧ ws[r.toNat]? = some t ∧ ∀ j : Nat, (j : Int) < r → ws[j]? ≠ some t) ∨ (r = -1 ∧ ∀ j : Nat, ws[j]? ≠ some t)
theorem IsIx.has {ws : List (List Int)} {t : List Int} {r : Int} (h : IsIx ws t r) : 0 ≤ r ↔ t ∈ ws := sorry
section LIW
variable {ω : AO} {d G g : Nat} {S S' : AS} {a b c x e : Int} {l t : List Int} {ws : List (List Int)} {Θ : Th}
theorem t_J7_indexOfW {Q : Int → AS → Prop} (hd : 3 ≤ d) (h : LstC ω S a l c) (hx : 0 ≤ x) (hxs : StrC S x t) (hws : l.length = ws.length) (hs : ∀ (k : Nat) (w : List Int), ws[k]? = some w → StrC S (gt l (k : Int)) w ∧ 0 ≤ gt l (k : Int)) (hQ : ∀ r, IsIx ws t r → Q r S) : w_J7_indexOf ω d G a x S Q := sorry
theorem u_J7_indexOfW {Q : Int → Th → Prop} (hd : 3 ≤ d) (h : xo Θ a = (3, l, c, e)) (hx : Str Θ x t) (hs : all2 (Str Θ) l ws) (hQ : ∀ r, IsIx ws t r → Q r Θ) : w2_J7_indexOf ω d G a x Θ Q := sorry
theorem u_J7_containsW {Q : Int → Th → Prop} (hd : 4 ≤ d) (h : xo Θ a = (3, l, c, e)) (hx : Str Θ x t) (hs : all2 (Str Θ) l ws) (hQ : ∀ z, z = (if ws.contains t = true then 1 else 0) → Q z Θ) : w2_J7_contains ω d G a x Θ Q := sorry
end LIW

/-! 77.ah.lean.txt -/
/-! a tool for constructors, over items -/
set_option maxRecDepth 100000
/-- an object is being made: these are its parts -/
def MKI (Θ : Th) (a : Int) (Θ1 : Th) (L : List It) : Prop := (0 < kd Θ a ∧ kd Θ a < 200) ∧ GrX (· = a) Θ Θ1 ∧ OwS Θ1 L ∧ ∀ x, x ∈ L → ∀ z, z ∈ x.1 → z = a ∨ kd Θ z = 0
section MKS
variable {Θ Θ1 Θ2 Θ3 : Th} {a v k x e cc : Int} {c c' : Cl} {t : Nat} {l : List Int} {L : List It} {ex : Int → Prop} {p y : It} {n : Nat}
theorem MKI.start (h : xo Θ a = c) (hf : ¬ fz Θ a) (hc : 0 < c.1 ∧ c.1 < 200) : MKI Θ a Θ [obj a c] := sorry
theorem MKI.kda (h : MKI Θ a Θ1 L) : kd Θ1 a = kd Θ a := h.2.1.1.2.1 a h.1.1 h.1.2
theorem MKI.old (h : MKI Θ a Θ1 L) (hv : kd Θ1 v = 0) : kd Θ v = 0 := sorry
/-- a step that alters only what is new -/
theorem MKI.step (h : MKI Θ a Θ1 L) (g : GrX ex Θ1 Θ2) (he : ∀ z, ex z → 0 < kd Θ1 z → z = a ∨ kd Θ z = 0) {L' : List It} (hL : OwS Θ2 L') (ho : ∀ x, x ∈ L' → ∀ z, z ∈ x.1 → z = a ∨ kd Θ z = 0) : MKI Θ a Θ2 L' := sorry
theorem MKI.nuI (h : MKI Θ a Θ1 L) (B : Bl Θ1) (u : nt Θ1 ≤ v ∧ 0 ≤ v) (hc : 0 < c.1 ∧ c.1 < 200) (t : Θ2 = nu Θ1 v c) : MKI Θ a Θ2 (obj v c :: L) ∧ Gr Θ1 Θ2 ∧ kd Θ v = 0 := sorry
/-- made in two steps: lists, builders, rows -/
theorem MKI.nuJ (h : MKI Θ a Θ1 L) (B : Bl Θ1) (u : nt Θ1 ≤ v ∧ 0 ≤ v) (hc : 0 < c'.1 ∧ c'.1 < 200) (hc2 : 200 ≤ c.1) (t : Θ2 = nu Θ1 v c) (t2 : Θ3 = uq Θ2 v c') : MKI Θ a Θ3 (obj v c' :: L) ∧ Gr Θ1 Θ3 ∧ kd Θ v = 0 := sorry
theorem MKI.pfE (h : MKI Θ a Θ1 L) (hn : L[n]? = some (obj v (t, l, cc, e))) (ht : 0 < t) (hx : Θ2 = pf Θ1 v k x) : MKI Θ a Θ2 (L.set n (obj v (t, l.set k.toNat x, cc, e))) ∧ GrX (· = v) Θ1 Θ2 := sorry
/-- an item is altered, or takes what is new -/
theorem MKI.alt (h : MKI Θ a Θ1 L) (hn : L[n]? = some p) (g : GrX ex Θ1 Θ2) (he : ∀ z, ex z → 0 < kd Θ1 z → z ∈ p.1) (h1 : y.2 Θ2) (h2 : stb y) (h3 : live Θ2 y.1) (h4 : ∀ z, z ∈ y.1 → z ∈ p.1 ∨ kd Θ1 z = 0) : MKI Θ a Θ2 (L.set n y) := sorry
theorem MKI.gr (h : MKI Θ a Θ1 L) (g : Gr Θ1 Θ2) : MKI Θ a Θ2 L := sorry
theorem MKI.rd (h : MKI Θ a Θ1 L) (hn : L[n]? = some (obj v c)) : xo Θ1 v = c ∧ ¬ fz Θ1 v := h.2.2.1.at hn
end MKS
/-- a sorted row as an item -/
def soI (a p q : Int) (ks : List (List Int)) (vs : List Int) (c1 c2 : Int) : It := ([a, p, q], fun Θ => SoO Θ a p q ks vs c1 c2)
theorem soI_stb {a p q c1 c2 : Int} {ks : List (List Int)} {vs : List Int} : stb (soI a p q ks vs c1 c2) := sorry
theorem soI_live {Θ : Th} {a p q c1 c2 : Int} {ks : List (List Int)} {vs : List Int} (h : SoO Θ a p q ks vs c1 c2) : live Θ [a, p, q] := sorry
/-- a set of bits as an item -/
def btI (a c n : Int) (f : Int → Bool) : It := ([a, c], fun Θ => BtO Θ a c n f)
theorem btI_stb {a c n : Int} {f : Int → Bool} : stb (btI a c n f) := sorry
theorem btI_live {Θ : Th} {a c n : Int} {f : Int → Bool} (h : BtO Θ a c n f) : live Θ [a, c] := sorry
/-! 77.ai.lean.txt -/
/-! mails -/
set_option maxRecDepth 100000
/-- where a mail lies: a file, which of its messages -/
def PlO (Θ : Th) (r : Int) (p : Int × Int) : Prop := Fx Θ r (31, [p.1, p.2], 0, 0)
theorem PlO.le {Θ Θ1 : Th} {r : Int} {p : Int × Int} (h : PlO Θ r p) (L : Le Θ Θ1) : PlO Θ1 r p := Fx.le h L
def FlO (Θ : Th) (f x : Int) : Prop := ∃ F so, xo Θ f = (26, F, 0, 0) ∧ Fx Θ (gt F 1) (27, [so, x], 0, 0)
def NmO (Θ : Th) (f : Int) (w : List Int) : Prop := ∃ F, xo Θ f = (26, F, 0, 0) ∧ Str Θ (gt F 0) w
def flA (fl : Int → Int) (ps : List (Int × Int)) (b : Int) : Int := ps.foldl (fun b p => orI b (fl p.1)) b
def FT : List Int := [83, 70, 82, 84, 68, 80]
def ftL (b : Int) : List Int → Int → Int → Int
  | [], x, _ => x
  | c :: r, x, k => ftL b r (orI x (shlI ((shrI b (c - 65)) % 2) k)) (k + 1)
/-- the tags a mail's flags give -/
def ftF (b : Int) (there : Bool) : Int := if there = true then xorI (ftL b FT 0 0) 1 else 0
def bhB (nm : Int → List Int) (p : Int × Int) (f n : Int) : Bool := decide (0 < cmpL (nm p.1) (nm f)) || (decide (cmpL (nm p.1) (nm f) = 0) && decide (n < p.2))
def adI (nm : Int → List Int) (ps : List (Int × Int)) (f n : Int) : Nat → Nat
  | 0 => 0
  | i + 1 => if bhB nm (ps.getD i (0, 0)) f n = true then adI nm ps f n i else i + 1
def adP (nm : Int → List Int) (ps : List (Int × Int)) (f n : Int) : List (Int × Int) := ps.take (adI nm ps f n ps.length) ++ (f, n) :: ps.drop (adI nm ps f n ps.length)
def ewB (nm : Int → List Int) (ps : List (Int × Int)) (hd : List (List Int)) : Bool := ps.all (fun p => !hd.contains (nm p.1))
section MAI
variable {ω : AO} {d G g : Nat} {Θ Θ1 Θ2 : Th} {m r f n k c e ms x b : Int} {F rs : List Int} {ps : List (Int × Int)} {fl : Int → Int} {nm : Int → List Int} {p : Int × Int}
theorem u_X18_file {Q : Int → Th → Prop} (h : PlO Θ r p) (hQ : Q p.1 Θ) : w2_X18_file ω d G r Θ Q := sorry
theorem u_X18_message {Q : Int → Th → Prop} (h : PlO Θ r p) (hQ : Q p.2 Θ) : w2_X18_message ω d G r Θ Q := sorry
theorem u_X16_flags {Q : Int → Th → Prop} (hd : 3 ≤ d) (h : xo Θ m = (29, F, 0, 0)) (hp : xo Θ (gt F 4) = (3, rs, c, e)) (ha : all2 (PlO Θ) rs ps) (hf : ∀ p, p ∈ ps → FlO Θ p.1 (fl p.1)) (hQ : Q (flA fl ps 0) Θ) : w2_X16_flags ω d G m Θ Q := sorry
theorem u_X16_isThere {Q : Int → Th → Prop} (hd : 1 ≤ d) (h : xo Θ m = (29, F, 0, 0)) (hp : xo Θ (gt F 4) = (3, rs, c, e)) (hQ : ∀ z, z = (if rs = [] then 0 else 1) → Q z Θ) : w2_X16_isThere ω d G m Θ Q := sorry
theorem u_X16_flagTags {Q : Int → Th → Prop} (hd : 5 ≤ d) (h : xo Θ m = (29, F, 0, 0)) (hp : xo Θ (gt F 4) = (3, rs, c, e)) (ha : all2 (PlO Θ) rs ps) (hf : ∀ p, p ∈ ps → FlO Θ p.1 (fl p.1)) (hQ : Q (ftF (flA fl ps 0) (!ps.isEmpty)) Θ) : w2_X16_flagTags ω d G m Θ Q := sorry
theorem u_X16_time {Q : Int → Th → Prop} {CF : List Int} (h : xo Θ m = (29, F, 0, 0)) (hc : xo Θ (gt F 3) = (32, CF, 0, 0)) (hQ : Q (gt CF 11) Θ) : w2_X16_time ω d G m Θ Q := sorry
theorem u_X16_isBehind {Q : Int → Th → Prop} (hd : 7 ≤ d) (h : PlO Θ r p) (h1 : NmO Θ p.1 (nm p.1)) (h2 : NmO Θ f (nm f)) (hn : inI n) (hQ : ∀ z, z = (if bhB nm p f n = true then 1 else 0) → Q z Θ) : w2_X16_isBehind ω d G r f n Θ Q := sorry
theorem adI_le {nm : Int → List Int} {ps : List (Int × Int)} {f n : Int} : ∀ i : Nat, adI nm ps f n i ≤ i := sorry
theorem u_X16_add {Q : Th → Prop} (hd : 8 ≤ d) (h : xo Θ m = (29, F, 0, 0)) (hp : xo Θ (gt F 4) = (3, rs, c, e)) (fp : ¬ fz Θ (gt F 4)) (ha : all2 (PlO Θ) rs ps) (hnm : ∀ p, p ∈ ps → NmO Θ p.1 (nm p.1)) (hf : NmO Θ f (nm f)) (hn : inI n) (hln : len rs ≤ 1000000) (hc : adC c (len rs) ≤ 60000000 ∧ c ≤ adC c (len rs)) (hG : 1 + (adC c (len rs) - c) ≤ (G : Int))
    (hQ : ∀ Θ' rs' e', GrX (· = gt F 4) Θ Θ' → xo Θ' (gt F 4) = (3, rs', adC c (len rs), e') → ¬ fz Θ' (gt F 4) → all2 (PlO Θ') rs' (adP nm ps f n) → Q Θ') : w2_X16_add ω d G m f n Θ Q := sorry
theorem u_X16_isElsewhere {Q : Int → Th → Prop} {hs : List Int} {hd' : List (List Int)} {c2 e2 : Int} (hd : 6 ≤ d) (h : xo Θ m = (29, F, 0, 0)) (hp : xo Θ (gt F 4) = (3, rs, c, e)) (ha : all2 (PlO Θ) rs ps) (hnm : ∀ p, p ∈ ps → NmO Θ p.1 (nm p.1)) (hh : xo Θ (gt F 6) = (3, hs, c2, e2)) (hhs : all2 (Str Θ) hs hd') (hQ : ∀ z, z = (if ewB nm ps hd' = true then 1 else 0) → Q z Θ) : w2_X16_isElsewhere ω d G m Θ Q := sorry
/-- a mail is made -/
theorem u_X16_init {Q : Th → Prop} {key by_ : Int} (hd : 5 ≤ d) (h : xo Θ m = (29, [0, -1, -1, -1, -1, -1, -1, 0, 0, 0, -1], 0, 0)) (hf : ¬ fz Θ m) (hn : inI n) (hms : Fx Θ ms (28, [key, by_], 0, 0)) (hG : 6 ≤ G)
    (hQ : ∀ Θ' pl hl tg p q e1 e2, MKI Θ m Θ' [obj hl (3, [], 0, e2), soI tg p q [] [] 0 0, obj pl (3, [], 0, e1), obj m (29, [n, key, by_, -1, pl, tg, hl, 0, 0, -1, -1], 0, 0)] → Q Θ') : w2_X16_init ω d G m n ms Θ Q := sorry
end MAI

/-! 78.aa.lean.txt -/
/-! segments -/
set_option maxRecDepth 100000
def w2_X7_init (ω : AO) (d G : Nat) (l0 : Int) (Θ : Th) (Q : Th → Prop) : Prop := Hid (∀ S, bel S → R2 ω S Θ → Ctr ω yX7_init cX7_init 1 none d G [(2, l0)] S (eU S (q2U ω Θ Q)))
def w2_X7_fresh (ω : AO) (d G : Nat) (l0 : Int) (Θ : Th) (Q : Int → Th → Prop) : Prop := Hid (∀ S, bel S → R2 ω S Θ → Ctr ω yX7_fresh cX7_fresh 1 (some (.object "MailWorks$Segment")) d G [(2, l0)] S (eA S (q2 ω Θ Q)))
def w2_X7_areFour (ω : AO) (d G : Nat) (l0 : Int) (Θ : Th) (Q : Int → Th → Prop) : Prop := Hid (∀ S, bel S → R2 ω S Θ → Ctr ω yX7_areFour cX7_areFour 4 (some .boolean) d G [(2, l0)] S (eZ S (q2 ω Θ Q)))
def w2_X7_leastAt (ω : AO) (d G : Nat) (l0 l1 l2 : Int) (Θ : Th) (Q : Int → Th → Prop) : Prop := Hid (∀ S, bel S → R2 ω S Θ → Ctr ω yX7_leastAt cX7_leastAt 6 (some .int) d G [(2, l0), (0, l1), (2, l2)] S (eI S (q2 ω Θ Q)))
def w2_X7_firstOf (ω : AO) (d G : Nat) (l0 l1 : Int) (Θ : Th) (Q : Int → Th → Prop) : Prop := Hid (∀ S, bel S → R2 ω S Θ → Ctr ω yX7_firstOf cX7_firstOf 5 (some .int) d G [(2, l0), (2, l1)] S (eI S (q2 ω Θ Q)))
def w2_X7_wordsOf (ω : AO) (d G : Nat) (l0 l1 : Int) (Θ : Th) (Q : Int → Th → Prop) : Prop := Hid (∀ S, bel S → R2 ω S Θ → Ctr ω yX7_wordsOf cX7_wordsOf 2 (some (.object "MailWorks$Words")) d G [(2, l0), (0, l1)] S (eA S (q2 ω Θ Q)))
def w2_X7_take (ω : AO) (d G : Nat) (l0 l1 : Int) (Θ : Th) (Q : Th → Prop) : Prop := Hid (∀ S, bel S → R2 ω S Θ → Ctr ω yX7_take cX7_take 4 none d G [(2, l0), (2, l1)] S (eU S (q2U ω Θ Q)))
def w2_X7_merge (ω : AO) (d G : Nat) (l0 l1 : Int) (Θ : Th) (Q : Th → Prop) : Prop := Hid (∀ S, bel S → R2 ω S Θ → Ctr ω yX7_merge cX7_merge 9 none d G [(2, l0), (0, l1)] S (eU S (q2U ω Θ Q)))
def w2_X7_segment (ω : AO) (d G : Nat) (l0 : Int) (Θ : Th) (Q : Int → Th → Prop) : Prop := Hid (∀ S, bel S → R2 ω S Θ → Ctr ω yX7_segment cX7_segment 7 (some (.object "MailWorks$Segment")) d G [(2, l0)] S (eA S (q2 ω Θ Q)))
def w2_X7_flush (ω : AO) (d G : Nat) (l0 : Int) (Θ : Th) (Q : Th → Prop) : Prop := Hid (∀ S, bel S → R2 ω S Θ → Ctr ω yX7_flush cX7_flush 1 none d G [(2, l0)] S (eU S (q2U ω Θ Q)))
def w2_X7_add (ω : AO) (d G : Nat) (l0 l1 : Int) (Θ : Th) (Q : Th → Prop) : Prop := Hid (∀ S, bel S → R2 ω S Θ → Ctr ω yX7_add cX7_add 4 none d G [(2, l0), (2, l1)] S (eU S (q2U ω Θ Q)))
def w2_X7_mailsOf (ω : AO) (d G : Nat) (l0 l1 l2 : Int) (Θ : Th) (Q : Th → Prop) : Prop := Hid (∀ S, bel S → R2 ω S Θ → Ctr ω yX7_mailsOf cX7_mailsOf 4 none d G [(2, l0), (2, l1), (2, l2)] S (eU S (q2U ω Θ Q)))
def w2_X7_matching (ω : AO) (d G : Nat) (l0 l1 l2 l3 : Int) (Θ : Th) (Q : Th → Prop) : Prop := Hid (∀ S, bel S → R2 ω S Θ → Ctr ω yX7_matching cX7_matching 9 none d G [(2, l0), (2, l1), (2, l2), (2, l3)] S (eU S (q2U ω Θ Q)))
def w2_X7_stem (ω : AO) (d G : Nat) (l0 l1 l2 l3 : Int) (Θ : Th) (Q : Th → Prop) : Prop := Hid (∀ S, bel S → R2 ω S Θ → Ctr ω yX7_stem cX7_stem 4 none d G [(2, l0), (0, l1), (2, l2), (2, l3)] S (eU S (q2U ω Θ Q)))
def w2_X7_collect (ω : AO) (d G : Nat) (l0 l1 l2 : Int) (Θ : Th) (Q : Th → Prop) : Prop := Hid (∀ S, bel S → R2 ω S Θ → Ctr ω yX7_collect cX7_collect 7 none d G [(2, l0), (2, l1), (2, l2)] S (eU S (q2U ω Θ Q)))
def w2_X7_phrase (ω : AO) (d G : Nat) (l0 l1 l2 l3 : Int) (Θ : Th) (Q : Th → Prop) : Prop := Hid (∀ S, bel S → R2 ω S Θ → Ctr ω yX7_phrase cX7_phrase 8 none d G [(2, l0), (0, l1), (2, l2), (2, l3)] S (eU S (q2U ω Θ Q)))
theorem lm_X7_11 : ILk RX7 11 yJ7_init cJ7_init 1 0 := sorry
theorem lf_X7_12_21 : FLk RX7 12 21 0 (.object "java/util/ArrayList") true := sorry
theorem lf_X7_18_21 : FLk RX7 18 21 1 (.object "java/util/ArrayList") true := sorry
theorem lf_X7_21_21 : FLk RX7 21 21 2 (.object "java/util/ArrayList") true := sorry
theorem ln_X7_26 : NLk RX7 26 yX8_init cX8_init 1 none 0 := sorry
theorem lf_X7_27_21 : FLk RX7 27 21 3 (.object "MailWorks$Bits") true := sorry
theorem ln_X7_33 : NLk RX7 33 yX9_init cX9_init 1 none 0 := sorry
theorem lf_X7_34_21 : FLk RX7 34 21 4 (.object "MailWorks$Hits") true := sorry
theorem lf_X7_38_21 : FLk RX7 38 21 5 (.object "MailWorks$Hits") true := sorry
theorem lf_X7_41_21 : FLk RX7 41 21 6 (.object "MailWorks$Hits") true := sorry
theorem lf_X7_44_21 : FLk RX7 44 21 8 (.object "java/util/ArrayList") false := sorry
theorem lf_X7_47_21 : FLk RX7 47 21 9 (.object "java/util/ArrayList") true := sorry
theorem lr_X7_47_21 : FLkR RX7 47 21 9 (.object "java/util/ArrayList") := sorry
theorem lm_X7_50 : VLk RX7 50 3 yJ7_isEmpty cJ7_isEmpty 1 (some .boolean) 0 := sorry
theorem lm_X7_57 : VLk RX7 57 3 yJ7_size cJ7_size 1 (some .int) 0 := sorry
theorem lm_X7_61 : VLk RX7 61 3 yJ7_remove_2 cJ7_remove_2 4 (some (.object "java/lang/Object")) 1 := sorry
theorem ln_X7_56 : NLk RX7 56 yX49_init cX49_init 1 none 0 := sorry
theorem lr_X7_12_21 : FLkR RX7 12 21 0 (.object "java/util/ArrayList") := sorry
theorem lm_X7_65 : VLk RX7 65 3 yJ7_get cJ7_get 2 (some (.object "java/lang/Object")) 1 := sorry
theorem lr_X7_169_54 : FLkR RX7 169 54 0 .int := sorry
theorem lg_X7_182_54 : FLkN RX7 182 54 2 (.object "java/util/ArrayList") true := sorry
theorem lm_X7_125 : SLk RX7 125 yX12_order cX12_order 3 (some .int) 2 := sorry
theorem lr_X7_44_21 : FLkR RX7 44 21 8 (.object "java/util/ArrayList") := sorry
theorem lm_X7_112 : VLk RX7 112 7 yJ19_intValue cJ19_intValue 1 (some .int) 0 := sorry
theorem lm_X7_115 : VLk RX7 115 21 yX7_wordsOf cX7_wordsOf 2 (some (.object "MailWorks$Words")) 1 := sorry
theorem lr_X7_119_53 : FLkR RX7 119 53 0 (.object "java/util/ArrayList") := sorry
theorem lr_X7_21_21 : FLkR RX7 21 21 2 (.object "java/util/ArrayList") := sorry
theorem lr_X7_70_32 : FLkR RX7 70 32 8 (.object "MailWorks$Words") := sorry
theorem lr_X7_84_29 : FLkR RX7 84 29 9 .int := sorry
theorem lf_X7_84_29 : FLk RX7 84 29 9 .int false := sorry
theorem lr_X7_27_21 : FLkR RX7 27 21 3 (.object "MailWorks$Bits") := sorry
theorem lm_X7_108 : VLk RX7 108 22 yX8_set cX8_set 2 none 1 := sorry
theorem lm_X7_131 : VLk RX7 131 21 yX7_fresh cX7_fresh 1 (some (.object "MailWorks$Segment")) 0 := sorry
theorem lm_X7_135 : VLk RX7 135 54 yX49_begin cX49_begin 3 (some (.object "MailWorks$Segment")) 2 := sorry
theorem lm_X7_178 : VLk RX7 178 21 yX7_leastAt cX7_leastAt 6 (some .int) 2 := sorry
theorem lr_X7_172_54 : FLkR RX7 172 54 1 (.object "java/util/ArrayList") := sorry
theorem lr_X7_34_21 : FLkR RX7 34 21 4 (.object "MailWorks$Hits") := sorry
theorem lg_X7_143_23 : FLkN RX7 143 23 1 .int false := sorry
theorem lm_X7_175 : VLk RX7 175 22 yX8_get cX8_get 2 (some .boolean) 1 := sorry
theorem lm_X7_74 : VLk RX7 74 3 yJ7_add cJ7_add 2 (some .boolean) 1 := sorry
theorem lm_X7_157 : VLk RX7 157 54 yX49_add cX49_add 6 none 2 := sorry
theorem lm_X7_145 : VLk RX7 145 2 yJ2_equals cJ2_equals 3 (some .boolean) 1 := sorry
theorem lm_X7_183 : VLk RX7 183 54 yX49_read cX49_read 10 none 3 := sorry
theorem lm_X7_139 : VLk RX7 139 21 yX7_firstOf cX7_firstOf 5 (some .int) 1 := sorry
theorem lr_X7_148_53 : FLkR RX7 148 53 1 (.object "java/util/ArrayList") := sorry
theorem lm_X7_153 : VLk RX7 153 23 yX9_addAll cX9_addAll 5 none 2 := sorry
theorem lm_X7_160 : VLk RX7 160 21 yX7_segment cX7_segment 7 (some (.object "MailWorks$Segment")) 0 := sorry
theorem lm_X7_163 : VLk RX7 163 21 yX7_areFour cX7_areFour 4 (some .boolean) 0 := sorry
theorem lm_X7_166 : VLk RX7 166 21 yX7_merge cX7_merge 9 none 1 := sorry
theorem lr_X7_18_21 : FLkR RX7 18 21 1 (.object "java/util/ArrayList") := sorry
theorem lr_X7_78_29 : FLkR RX7 78 29 3 (.object "MailWorks$Content") := sorry
theorem lm_X7_99 : SLk RX7 99 yJ19_valueOf cJ19_valueOf 1 (some (.object "java/lang/Intege\x72")) 1 := sorry
theorem lm_X7_105 : VLk RX7 105 21 yX7_flush cX7_flush 1 none 0 := sorry
theorem lr_X7_88_21 : FLkR RX7 88 21 7 .int := sorry
theorem lr_X7_91_32 : FLkR RX7 91 32 6 (.object "java/util/ArrayList") := sorry
theorem lm_X7_96 : VLk RX7 96 50 yX45_many cX45_many 1 (some .int) 0 := sorry
theorem lf_X7_88_21 : FLk RX7 88 21 7 .int false := sorry
theorem lg_X7_214_23 : FLkN RX7 214 23 0 (.array .long) false := sorry
theorem lr_X7_218_29 : FLkR RX7 218 29 0 .int := sorry
theorem lm_X7_193 : ILk RX7 193 yJ1_init cJ1_init 1 0 := sorry
theorem lm_X7_196 : VLk RX7 196 1 yJ1_append_3 cJ1_append_3 2 (some (.object "java/lang/StringBuilde\x72")) 1 := sorry
theorem lm_X7_221 : VLk RX7 221 2 yJ2_indexOf_3 cJ2_indexOf_3 2 (some .int) 1 := sorry
theorem lm_X7_225 : VLk RX7 225 2 yJ2_substring cJ2_substring 5 (some (.object "java/lang/String")) 2 := sorry
theorem lm_X7_203 : VLk RX7 203 1 yJ1_toString cJ1_toString 1 (some (.object "java/lang/String")) 0 := sorry
theorem ln_X7_187 : NLk RX7 187 yX1_findIn cX1_findIn 5 (some .int) 2 := sorry
theorem lm_X7_229 : SLk RX7 229 yX12_begins cX12_begins 3 (some .boolean) 3 := sorry
theorem lm_X7_233 : SLk RX7 233 yX12_fitsFrom cX12_fitsFrom 6 (some .boolean) 3 := sorry
theorem lm_X7_210 : VLk RX7 210 21 yX7_mailsOf cX7_mailsOf 4 none 2 := sorry
theorem lm_X7_200 : VLk RX7 200 1 yJ1_append_2 cJ1_append_2 2 (some (.object "java/lang/StringBuilde\x72")) 1 := sorry
theorem lm_X7_207 : VLk RX7 207 21 yX7_collect cX7_collect 7 none 2 := sorry
theorem lr_X7_38_21 : FLkR RX7 38 21 5 (.object "MailWorks$Hits") := sorry
theorem lr_X7_41_21 : FLkR RX7 41 21 6 (.object "MailWorks$Hits") := sorry
theorem lm_X7_238 : VLk RX7 238 23 yX9_has cX9_has 3 (some .boolean) 1 := sorry
theorem lm_X7_242 : VLk RX7 242 23 yX9_add cX9_add 3 none 1 := sorry
def W2_X7_init_70 (ω : AO) (d G : Nat) (l0 : Int) (g : Nat) (Θ : Th) (Q : Th → Prop) : Prop := Hid (SJ2 ω yX7_init cX7_init 1 none d G (fun Sz Θz => (eU Sz (q2U ω Θz Q))) 70 [(2, l0)] [] g Θ)
set_option maxHeartbeats 4000000 in
theorem s2_X7_init {ω : AO} {d G : Nat} {l0 : Int} {Θ : Th} {Q : Th → Prop} (hB : (1 ≤ d) ∧ (0 ≤ l0) ∧ (0 + 1 ≤ G) ∧ ∀ (v5 : Int) (Θ5 : Th) (u5 : nt Θ ≤ v5 ∧ 0 ≤ v5) (b5 : Bl Θ) (t5 : Θ5 = nu Θ v5 (203, [], 0, 0)), (4 ≤ d) ∧ ∀ (k9 : Int) (Θ9 : Th) (t9 : Θ9 = uq Θ5 v5 (3, [], 0, k9)), (kd Θ9 l0 = 21) ∧ (¬ fz Θ9 l0) ∧ ∀ (Θ12 : Th) (t12 : Θ12 = pf Θ9 l0 0 v5), (0 + 1 + 1 ≤ G) ∧ ∀ (v16 : Int) (Θ16 : Th) (u16 : nt Θ12 ≤ v16 ∧ 0 ≤ v16) (b16 : Bl Θ12) (t16 : Θ16 = nu Θ12 v16 (203, [], 0, 0)), ∀ (k20 : Int) (Θ20 : Th) (t20 : Θ20 = uq Θ16 v16 (3, [], 0, k20)), (¬ fz Θ20 l0) ∧ ∀ (Θ23 : Th) (t23 : Θ23 = pf Θ20 l0 1 v16), (0 + 1 + 1 + 1 ≤ G) ∧ ∀ (v27 : Int) (Θ27 : Th) (u27 : nt Θ23 ≤ v27 ∧ 0 ≤ v27) (b27 : Bl Θ23) (t27 : Θ27 = nu Θ23 v27 (203, [], 0, 0)), ∀ (k31 : Int) (Θ31 : Th) (t31 : Θ31 = uq Θ27 v27 (3, [], 0, k31)), (¬ fz Θ31 l0) ∧ ∀ (Θ34 : Th) (t34 : Θ34 = pf Θ31 l0 2 v27), (0 + 1 + 1 + 1 + 1 ≤ G) ∧ ∀ (v38 : Int) (Θ38 : Th) (u38 : nt Θ34 ≤ v38 ∧ 0 ≤ v38) (b38 : Bl Θ34) (t38 : Θ38 = nu Θ34 v38 (22, [-1], 0, 0)), ∃ G42 : Nat, (0 + 1 + 1 + 1 + 1 + G42 ≤ G) ∧ w2_X8_init ω (d - 1) G42 v38 Θ38 (fun Θ42 => ∀ (L42 : Le Θ38 Θ42), (¬ fz Θ42 l0) ∧ ∀ (Θ45 : Th) (t45 : Θ45 = pf Θ42 l0 3 v38), (0 + 1 + 1 + 1 + 1 + G42 + 1 ≤ G) ∧ ∀ (v49 : Int) (Θ49 : Th) (u49 : nt Θ45 ≤ v49 ∧ 0 ≤ v49) (b49 : Bl Θ45) (t49 : Θ49 = nu Θ45 v49 (223, [], 0, 0)), (2 ≤ d) ∧ (0 + 1 + 1 + 1 + 1 + G42 + 1 + 3 ≤ G) ∧ ∀ (Θ53 : Th) (t53 : Θ53 = uq Θ49 v49 (23, [], 8, 0)), (¬ fz Θ53 l0) ∧ ∀ (Θ56 : Th) (t56 : Θ56 = pf Θ53 l0 4 v49), (0 + 1 + 1 + 1 + 1 + G42 + 1 + 3 + 1 ≤ G) ∧ ∀ (v60 : Int) (Θ60 : Th) (u60 : nt Θ56 ≤ v60 ∧ 0 ≤ v60) (b60 : Bl Θ56) (t60 : Θ60 = nu Θ56 v60 (223, [], 0, 0)), (0 + 1 + 1 + 1 + 1 + G42 + 1 + 3 + 1 + 3 ≤ G) ∧ ∀ (Θ64 : Th) (t64 : Θ64 = uq Θ60 v60 (23, [], 8, 0)), (¬ fz Θ64 l0) ∧ ∀ (Θ67 : Th) (t67 : Θ67 = pf Θ64 l0 5 v60), W2_X7_init_70 ω d G l0 (0 + 1 + 1 + 1 + 1 + G42 + 1 + 3 + 1 + 3) Θ67 Q)) : w2_X7_init ω d G l0 Θ Q := sorry
set_option maxHeartbeats 4000000 in
theorem s2_X7_init_70 {ω : AO} {d G : Nat} {l0 : Int} {g : Nat} {Θ : Th} {Q : Th → Prop} (hB : (g + 1 ≤ G) ∧ ∀ (v71 : Int) (Θ71 : Th) (u71 : nt Θ ≤ v71 ∧ 0 ≤ v71) (b71 : Bl Θ) (t71 : Θ71 = nu Θ v71 (223, [], 0, 0)), (1 ≤ d) ∧ (2 ≤ d) ∧ (g + 1 + 3 ≤ G) ∧ ∀ (Θ75 : Th) (t75 : Θ75 = uq Θ71 v71 (23, [], 8, 0)), (kd Θ75 l0 = 21) ∧ (¬ fz Θ75 l0) ∧ ∀ (Θ78 : Th) (t78 : Θ78 = pf Θ75 l0 6 v71), (g + 1 + 3 + 1 ≤ G) ∧ ∀ (v82 : Int) (Θ82 : Th) (u82 : nt Θ78 ≤ v82 ∧ 0 ≤ v82) (b82 : Bl Θ78) (t82 : Θ82 = nu Θ78 v82 (203, [], 0, 0)), (4 ≤ d) ∧ ∀ (k86 : Int) (Θ86 : Th) (t86 : Θ86 = uq Θ82 v82 (3, [], 0, k86)), (¬ fz Θ86 l0) ∧ ∀ (Θ89 : Th) (t89 : Θ89 = pf Θ86 l0 8 v82), (g + 1 + 3 + 1 + 1 ≤ G) ∧ ∀ (v93 : Int) (Θ93 : Th) (u93 : nt Θ89 ≤ v93 ∧ 0 ≤ v93) (b93 : Bl Θ89) (t93 : Θ93 = nu Θ89 v93 (203, [], 0, 0)), ∀ (k97 : Int) (Θ97 : Th) (t97 : Θ97 = uq Θ93 v93 (3, [], 0, k97)), (¬ fz Θ97 l0) ∧ ∀ (Θ100 : Th) (t100 : Θ100 = pf Θ97 l0 9 v93), Q Θ100) : W2_X7_init_70 ω d G l0 g Θ Q := sorry
set_option maxHeartbeats 4000000 in
theorem s2_X7_fresh {ω : AO} {d G : Nat} {l0 : Int} {Θ : Th} {Q : Int → Th → Prop} (hB : (kd Θ l0 = 21) ∧ ∀ (v1 : Int) (e1 : v1 = gt (vv Θ l0) 9) (r1 : -1 ≤ v1), (1 ≤ d) ∧ (kd Θ v1 = 3) ∧ ∀ (x4 : Int) (e4 : x4 = if vv Θ v1 = [] then 1 else 0) (r4 : x4 = 0 ∨ x4 = 1), (∀ (c7 : x4 = 0), ∀ (v21 : Int) (e21 : v21 = gt (vv Θ l0) 9) (r21 : -1 ≤ v21), ∀ (v25 : Int) (e25 : v25 = gt (vv Θ l0) 9) (r25 : -1 ≤ v25), (kd Θ v25 = 3) ∧ ∀ (x28 : Int) (e28 : x28 = len (vv Θ v25)) (r28 : -2147483648 ≤ x28 ∧ x28 < 2147483648), (kd Θ v21 = 3) ∧ (¬ fz Θ v21) ∧ (0 ≤ (x28 - 1) ∧ (x28 - 1) < len (vv Θ v21)) ∧ (3 ≤ d) ∧ ∀ (x33 : Int) (e33 : x33 = gt (vv Θ v21) (x28 - 1)) (r33 : -1 ≤ x33), ∀ (k33 : Int) (Θ33 : Th) (t33 : Θ33 = uq Θ v21 (3, del (vv Θ v21) (x28 - 1), cp Θ v21, k33)), (x33 < 0 ∨ kd Θ33 x33 ∈ [54]) ∧ Q x33 Θ33) ∧ (∀ (c7 : ¬ x4 = 0), (0 + 2 ≤ G) ∧ ∀ (v10 : Int) (Θ10 : Th) (u10 : nt Θ ≤ v10 ∧ 0 ≤ v10) (b10 : Bl Θ) (t10 : Θ10 = nu Θ v10 (54, [0, -1, -1, -1, -1, -1, 0, 0], 0, 0)), ∃ G14 : Nat, (0 + 2 + G14 ≤ G) ∧ w2_X49_init ω (d - 1) G14 v10 Θ10 (fun Θ14 => ∀ (L14 : Le Θ10 Θ14), (0 + 2 + G14 ≤ G) ∧ Q v10 Θ14))) : w2_X7_fresh ω d G l0 Θ Q := sorry
def W2_X7_areFour_21 (ω : AO) (d G : Nat) (l0 l1 l2 l3 : Int) (g : Nat) (Θ : Th) (Q : Int → Th → Prop) : Prop := Hid (SJ2 ω yX7_areFour cX7_areFour 4 (some .boolean) d G (fun Sz Θz => (eZ Sz (q2 ω Θz Q))) 21 [(2, l0), (0, l1), (0, l2), (0, l3)] [] g Θ)
set_option maxHeartbeats 4000000 in
theorem s2_X7_areFour {ω : AO} {d G : Nat} {l0 : Int} {Θ : Th} {Q : Int → Th → Prop} (hB : (kd Θ l0 = 21) ∧ ∀ (v1 : Int) (e1 : v1 = gt (vv Θ l0) 0) (r1 : -1 ≤ v1), (1 ≤ d) ∧ (kd Θ v1 = 3) ∧ ∀ (x4 : Int) (e4 : x4 = len (vv Θ v1)) (r4 : -2147483648 ≤ x4 ∧ x4 < 2147483648), (∀ (c10 : x4 < 4), W2_X7_areFour_21 ω d G l0 x4 0 2 (0) Θ Q) ∧ (∀ (c10 : 4 ≤ x4), W2_X7_areFour_21 ω d G l0 x4 1 2 (0) Θ Q)) : w2_X7_areFour ω d G l0 Θ Q := sorry
set_option maxHeartbeats 4000000 in
theorem s2_X7_areFour_21 {ω : AO} {d G : Nat} {l0 l1 l2 l3 : Int} {g : Nat} {Θ : Th} {Q : Int → Th → Prop} (hB : (-2147483648 ≤ l3 ∧ l3 < 2147483648) ∧ (∀ (c23 : 4 < l3), (g ≤ G) ∧ (l2 = 0 ∨ l2 = 1) ∧ Q l2 Θ) ∧ (∀ (c23 : l3 ≤ 4), (-2147483648 ≤ l2 ∧ l2 < 2147483648) ∧ (∀ (c27 : l2 = 0), (g ≤ G) ∧ (l2 = 0 ∨ l2 = 1) ∧ Q l2 Θ) ∧ (∀ (c27 : ¬ l2 = 0), (kd Θ l0 = 21) ∧ ∀ (v31 : Int) (e31 : v31 = gt (vv Θ l0) 0) (r31 : -1 ≤ v31), (1 ≤ d) ∧ (kd Θ v31 = 3) ∧ (0 ≤ (l1 - l3) ∧ (l1 - l3) < len (vv Θ v31)) ∧ (3 ≤ d) ∧ (g ≤ G) ∧ ∀ (x37 : Int) (e37 : x37 = gt (vv Θ v31) (l1 - l3)) (r37 : -1 ≤ x37), (x37 < 0 ∨ kd Θ x37 ∈ [54]) ∧ (kd Θ x37 = 54) ∧ ∀ (v43 : Int) (e43 : v43 = gt (vv Θ x37) 0) (r43 : -2147483648 ≤ v43 ∧ v43 < 2147483648), ∀ (v47 : Int) (e47 : v47 = gt (vv Θ l0) 0) (r47 : -1 ≤ v47), (kd Θ v47 = 3) ∧ (0 ≤ (l1 - 1) ∧ (l1 - 1) < len (vv Θ v47)) ∧ ∀ (x53 : Int) (e53 : x53 = gt (vv Θ v47) (l1 - 1)) (r53 : -1 ≤ x53), (x53 < 0 ∨ kd Θ x53 ∈ [54]) ∧ (kd Θ x53 = 54) ∧ ∀ (v59 : Int) (e59 : v59 = gt (vv Θ x53) 0) (r59 : -2147483648 ≤ v59 ∧ v59 < 2147483648), (∀ (c62 : ¬ v43 = v59), W2_X7_areFour_21 ω d G l0 l1 0 ((l3 + 1)) (g) Θ Q) ∧ (∀ (c62 : v43 = v59), W2_X7_areFour_21 ω d G l0 l1 1 ((l3 + 1)) (g) Θ Q)))) : W2_X7_areFour_21 ω d G l0 l1 l2 l3 g Θ Q := sorry
def W2_X7_leastAt_5 (ω : AO) (d G : Nat) (l0 l2 l3 l4 : Int) (g : Nat) (Θ : Th) (Q : Int → Th → Prop) : Prop := Hid (SJ2 ω yX7_leastAt cX7_leastAt 6 (some .int) d G (fun Sz Θz => (eI Sz (q2 ω Θz Q))) 5 [(2, l0), vN, (2, l2), (0, l3), (0, l4), vN] [] g Θ)
def W2_X7_leastAt_91 (ω : AO) (d G : Nat) (l0 l2 l4 : Int) (g : Nat) (Θ : Th) (Q : Int → Th → Prop) : Prop := Hid (SJ2 ω yX7_leastAt cX7_leastAt 6 (some .int) d G (fun Sz Θz => (eI Sz (q2 ω Θz Q))) 91 [(2, l0), vN, (2, l2), vN, (0, l4), vN] [] g Θ)
set_option maxHeartbeats 4000000 in
theorem s2_X7_leastAt {ω : AO} {d G : Nat} {l0 l1 l2 : Int} {Θ : Th} {Q : Int → Th → Prop} (hB : W2_X7_leastAt_5 ω d G l0 l2 ((-1)) l1 (0) Θ Q) : w2_X7_leastAt ω d G l0 l1 l2 Θ Q := sorry
set_option maxHeartbeats 4000000 in
theorem s2_X7_leastAt_5 {ω : AO} {d G : Nat} {l0 l2 l3 l4 : Int} {g : Nat} {Θ : Th} {Q : Int → Th → Prop} (hB : (kd Θ l0 = 21) ∧ ∀ (v8 : Int) (e8 : v8 = gt (vv Θ l0) 0) (r8 : -1 ≤ v8), (1 ≤ d) ∧ (kd Θ v8 = 3) ∧ (g ≤ G) ∧ ∀ (x11 : Int) (e11 : x11 = len (vv Θ v8)) (r11 : -2147483648 ≤ x11 ∧ x11 < 2147483648), (-2147483648 ≤ l4 ∧ l4 < 2147483648) ∧ (∀ (c14 : x11 ≤ l4), (-2147483648 ≤ l3 ∧ l3 < 2147483648) ∧ Q l3 Θ) ∧ (∀ (c14 : l4 < x11), ∀ (v18 : Int) (e18 : v18 = gt (vv Θ l0) 0) (r18 : -1 ≤ v18), (kd Θ v18 = 3) ∧ (0 ≤ l4 ∧ l4 < len (vv Θ v18)) ∧ (3 ≤ d) ∧ ∀ (x23 : Int) (e23 : x23 = gt (vv Θ v18) l4) (r23 : -1 ≤ x23), (x23 < 0 ∨ kd Θ x23 ∈ [54]) ∧ (kd Θ x23 = 54) ∧ ∀ (v29 : Int) (e29 : v29 = gt (vv Θ x23) 2) (r29 : -1 ≤ v29), (kd Θ l2 = 104) ∧ (0 ≤ l4 ∧ l4 < len (vv Θ l2)) ∧ ∀ (v37 : Int) (e37 : v37 = gt (vv Θ l2) l4) (r37 : -2147483648 ≤ v37 ∧ v37 < 2147483648), (kd Θ v29 = 3) ∧ ∀ (x40 : Int) (e40 : x40 = len (vv Θ v29)) (r40 : -2147483648 ≤ x40 ∧ x40 < 2147483648), (∀ (c43 : x40 ≤ v37), W2_X7_leastAt_5 ω d G l0 l2 l3 ((l4 + 1)) (g) Θ Q) ∧ (∀ (c43 : v37 < x40), (-2147483648 ≤ l3 ∧ l3 < 2147483648) ∧ (∀ (c47 : l3 < 0), W2_X7_leastAt_91 ω d G l0 l2 l4 (g) Θ Q) ∧ (∀ (c47 : 0 ≤ l3), ∀ (v55 : Int) (e55 : v55 = gt (vv Θ l2) l4) (r55 : -2147483648 ≤ v55 ∧ v55 < 2147483648), (0 ≤ v55 ∧ v55 < len (vv Θ v29)) ∧ ∀ (x56 : Int) (e56 : x56 = gt (vv Θ v29) v55) (r56 : -1 ≤ x56), (x56 < 0 ∨ kd Θ x56 ∈ [2]) ∧ ∀ (v63 : Int) (e63 : v63 = gt (vv Θ l0) 0) (r63 : -1 ≤ v63), (kd Θ v63 = 3) ∧ (0 ≤ l3 ∧ l3 < len (vv Θ v63)) ∧ ∀ (x67 : Int) (e67 : x67 = gt (vv Θ v63) l3) (r67 : -1 ≤ x67), (x67 < 0 ∨ kd Θ x67 ∈ [54]) ∧ (kd Θ x67 = 54) ∧ ∀ (v73 : Int) (e73 : v73 = gt (vv Θ x67) 2) (r73 : -1 ≤ v73), (0 ≤ l3 ∧ l3 < len (vv Θ l2)) ∧ ∀ (v78 : Int) (e78 : v78 = gt (vv Θ l2) l3) (r78 : -2147483648 ≤ v78 ∧ v78 < 2147483648), (kd Θ v73 = 3) ∧ (0 ≤ v78 ∧ v78 < len (vv Θ v73)) ∧ ∀ (x79 : Int) (e79 : x79 = gt (vv Θ v73) v78) (r79 : -1 ≤ x79), (x79 < 0 ∨ kd Θ x79 ∈ [2]) ∧ (kd Θ x56 = 2) ∧ (kd Θ x79 = 2) ∧ (6 ≤ d) ∧ ∀ (x85 : Int) (e85 : x85 = cmpL (vv Θ x56) (vv Θ x79)) (r85 : -2147483648 ≤ x85 ∧ x85 < 2147483648), (∀ (c88 : 0 ≤ x85), W2_X7_leastAt_5 ω d G l0 l2 l3 ((l4 + 1)) (g) Θ Q) ∧ (∀ (c88 : x85 < 0), W2_X7_leastAt_91 ω d G l0 l2 l4 (g) Θ Q))))) : W2_X7_leastAt_5 ω d G l0 l2 l3 l4 g Θ Q := sorry
set_option maxHeartbeats 4000000 in
theorem s2_X7_leastAt_91 {ω : AO} {d G : Nat} {l0 l2 l4 : Int} {g : Nat} {Θ : Th} {Q : Int → Th → Prop} (hB : W2_X7_leastAt_5 ω d G l0 l2 l4 ((l4 + 1)) (g) Θ Q) : W2_X7_leastAt_91 ω d G l0 l2 l4 g Θ Q := sorry
def W2_X7_firstOf_4 (ω : AO) (d G : Nat) (l0 l1 l2 l3 : Int) (g : Nat) (Θ : Th) (Q : Int → Th → Prop) : Prop := Hid (SJ2 ω yX7_firstOf cX7_firstOf 5 (some .int) d G (fun Sz Θz => (eI Sz (q2 ω Θz Q))) 4 [(2, l0), (2, l1), (0, l2), (0, l3), vN] [] g Θ)
def W2_X7_firstOf_100 (ω : AO) (d G : Nat) (l0 l1 l3 : Int) (g : Nat) (Θ : Th) (Q : Int → Th → Prop) : Prop := Hid (SJ2 ω yX7_firstOf cX7_firstOf 5 (some .int) d G (fun Sz Θz => (eI Sz (q2 ω Θz Q))) 100 [(2, l0), (2, l1), vN, (0, l3), vN] [] g Θ)
set_option maxHeartbeats 4000000 in
theorem s2_X7_firstOf {ω : AO} {d G : Nat} {l0 l1 : Int} {Θ : Th} {Q : Int → Th → Prop} (hB : W2_X7_firstOf_4 ω d G l0 l1 ((-1)) 0 (0) Θ Q) : w2_X7_firstOf ω d G l0 l1 Θ Q := sorry
set_option maxHeartbeats 4000000 in
theorem s2_X7_firstOf_4 {ω : AO} {d G : Nat} {l0 l1 l2 l3 : Int} {g : Nat} {Θ : Th} {Q : Int → Th → Prop} (hB : (kd Θ l0 = 21) ∧ ∀ (v6 : Int) (e6 : v6 = gt (vv Θ l0) 8) (r6 : -1 ≤ v6), (1 ≤ d) ∧ (kd Θ v6 = 3) ∧ (g ≤ G) ∧ ∀ (x9 : Int) (e9 : x9 = len (vv Θ v6)) (r9 : -2147483648 ≤ x9 ∧ x9 < 2147483648), (-2147483648 ≤ l3 ∧ l3 < 2147483648) ∧ (∀ (c12 : x9 ≤ l3), (-2147483648 ≤ l2 ∧ l2 < 2147483648) ∧ Q l2 Θ) ∧ (∀ (c12 : l3 < x9), ∀ (v17 : Int) (e17 : v17 = gt (vv Θ l0) 8) (r17 : -1 ≤ v17), (kd Θ v17 = 3) ∧ (0 ≤ l3 ∧ l3 < len (vv Θ v17)) ∧ (3 ≤ d) ∧ ∀ (x21 : Int) (e21 : x21 = gt (vv Θ v17) l3) (r21 : -1 ≤ x21), (x21 < 0 ∨ kd Θ x21 ∈ [7]) ∧ (kd Θ x21 = 7) ∧ ∀ (x27 : Int) (e27 : x27 = gt (vv Θ x21) 0) (r27 : -2147483648 ≤ x27 ∧ x27 < 2147483648), ∃ G30 : Nat, (g + G30 ≤ G) ∧ w2_X7_wordsOf ω (d - 1) G30 l0 x27 Θ (fun x30 Θ30 => ∀ (L30 : Le Θ Θ30) (r30 : -1 ≤ x30), (kd Θ30 x30 = 53) ∧ ∀ (v33 : Int) (e33 : v33 = gt (vv Θ30 x30) 0) (r33 : -1 ≤ v33), (kd Θ30 l1 = 104) ∧ (0 ≤ l3 ∧ l3 < len (vv Θ30 l1)) ∧ ∀ (v40 : Int) (e40 : v40 = gt (vv Θ30 l1) l3) (r40 : -2147483648 ≤ v40 ∧ v40 < 2147483648), (kd Θ30 v33 = 3) ∧ (g + G30 ≤ G) ∧ ∀ (x43 : Int) (e43 : x43 = len (vv Θ30 v33)) (r43 : -2147483648 ≤ x43 ∧ x43 < 2147483648), (∀ (c46 : x43 ≤ v40), W2_X7_firstOf_4 ω d G l0 l1 l2 ((l3 + 1)) (g + G30) Θ30 Q) ∧ (∀ (c46 : v40 < x43), (-2147483648 ≤ l2 ∧ l2 < 2147483648) ∧ (∀ (c50 : l2 < 0), W2_X7_firstOf_100 ω d G l0 l1 l3 (g + G30) Θ30 Q) ∧ (∀ (c50 : 0 ≤ l2), ∀ (v57 : Int) (e57 : v57 = gt (vv Θ30 l1) l3) (r57 : -2147483648 ≤ v57 ∧ v57 < 2147483648), (0 ≤ v57 ∧ v57 < len (vv Θ30 v33)) ∧ ∀ (x58 : Int) (e58 : x58 = gt (vv Θ30 v33) v57) (r58 : -1 ≤ x58), (x58 < 0 ∨ kd Θ30 x58 ∈ [2]) ∧ ∀ (v66 : Int) (e66 : v66 = gt (vv Θ30 l0) 8) (r66 : -1 ≤ v66), (kd Θ30 v66 = 3) ∧ (0 ≤ l2 ∧ l2 < len (vv Θ30 v66)) ∧ ∀ (x70 : Int) (e70 : x70 = gt (vv Θ30 v66) l2) (r70 : -1 ≤ x70), (x70 < 0 ∨ kd Θ30 x70 ∈ [7]) ∧ (kd Θ30 x70 = 7) ∧ ∀ (x76 : Int) (e76 : x76 = gt (vv Θ30 x70) 0) (r76 : -2147483648 ≤ x76 ∧ x76 < 2147483648), ∃ G79 : Nat, (g + G30 + G79 ≤ G) ∧ w2_X7_wordsOf ω (d - 1) G79 l0 x76 Θ30 (fun x79 Θ79 => ∀ (L79 : Le Θ30 Θ79) (r79 : -1 ≤ x79), (kd Θ79 x79 = 53) ∧ ∀ (v82 : Int) (e82 : v82 = gt (vv Θ79 x79) 0) (r82 : -1 ≤ v82), (0 ≤ l2 ∧ l2 < len (vv Θ79 l1)) ∧ ∀ (v87 : Int) (e87 : v87 = gt (vv Θ79 l1) l2) (r87 : -2147483648 ≤ v87 ∧ v87 < 2147483648), (kd Θ79 v82 = 3) ∧ (0 ≤ v87 ∧ v87 < len (vv Θ79 v82)) ∧ (g + G30 + G79 ≤ G) ∧ ∀ (x88 : Int) (e88 : x88 = gt (vv Θ79 v82) v87) (r88 : -1 ≤ x88), (x88 < 0 ∨ kd Θ79 x88 ∈ [2]) ∧ (kd Θ79 x58 = 2) ∧ (kd Θ79 x88 = 2) ∧ (6 ≤ d) ∧ ∀ (x94 : Int) (e94 : x94 = cmpL (vv Θ79 x58) (vv Θ79 x88)) (r94 : -2147483648 ≤ x94 ∧ x94 < 2147483648), (∀ (c97 : 0 ≤ x94), W2_X7_firstOf_4 ω d G l0 l1 l2 ((l3 + 1)) (g + G30 + G79) Θ79 Q) ∧ (∀ (c97 : x94 < 0), W2_X7_firstOf_100 ω d G l0 l1 l3 (g + G30 + G79) Θ79 Q))))))) : W2_X7_firstOf_4 ω d G l0 l1 l2 l3 g Θ Q := sorry
set_option maxHeartbeats 4000000 in
theorem s2_X7_firstOf_100 {ω : AO} {d G : Nat} {l0 l1 l3 : Int} {g : Nat} {Θ : Th} {Q : Int → Th → Prop} (hB : W2_X7_firstOf_4 ω d G l0 l1 l3 ((l3 + 1)) (g) Θ Q) : W2_X7_firstOf_100 ω d G l0 l1 l3 g Θ Q := sorry
set_option maxHeartbeats 4000000 in
theorem s2_X7_wordsOf {ω : AO} {d G : Nat} {l0 l1 : Int} {Θ : Th} {Q : Int → Th → Prop} (hB : (kd Θ l0 = 21) ∧ ∀ (v1 : Int) (e1 : v1 = gt (vv Θ l0) 2) (r1 : -1 ≤ v1), (1 ≤ d) ∧ (kd Θ v1 = 3) ∧ (0 ≤ l1 ∧ l1 < len (vv Θ v1)) ∧ (3 ≤ d) ∧ ∀ (x5 : Int) (e5 : x5 = gt (vv Θ v1) l1) (r5 : -1 ≤ x5), (x5 < 0 ∨ kd Θ x5 ∈ [32]) ∧ (kd Θ x5 = 32) ∧ ∀ (v11 : Int) (e11 : v11 = gt (vv Θ x5) 8) (r11 : -1 ≤ v11), Q v11 Θ) : w2_X7_wordsOf ω d G l0 l1 Θ Q := sorry
def W2_X7_take_28 (ω : AO) (d G : Nat) (l0 l2 l3 : Int) (g : Nat) (Θ : Th) (Q : Th → Prop) : Prop := Hid (SJ2 ω yX7_take cX7_take 4 none d G (fun Sz Θz => (eU Sz (q2U ω Θz Q))) 28 [(2, l0), vN, (0, l2), (0, l3)] [] g Θ)
set_option maxHeartbeats 4000000 in
theorem s2_X7_take {ω : AO} {d G : Nat} {l0 l1 : Int} {Θ : Th} {Q : Th → Prop} (hB : (kd Θ l1 = 29) ∧ ∀ (v1 : Int) (e1 : v1 = gt (vv Θ l1) 9) (r1 : -2147483648 ≤ v1 ∧ v1 < 2147483648), (¬ fz Θ l1) ∧ ∀ (Θ7 : Th) (t7 : Θ7 = pf Θ l1 9 (-1)), (kd Θ7 l0 = 21) ∧ ∀ (v11 : Int) (e11 : v11 = gt (vv Θ7 l0) 3) (r11 : -1 ≤ v11), (1 ≤ d) ∧ (kd Θ7 v11 = 22) ∧ ∃ G15 : Nat, (0 + G15 ≤ G) ∧ w2_X8_set ω (d - 1) G15 v11 v1 Θ7 (fun Θ15 => ∀ (L15 : Le Θ7 Θ15), ∀ (v19 : Int) (e19 : v19 = gt (vv Θ15 l0) 8) (r19 : -1 ≤ v19), (kd Θ15 v19 = 3) ∧ (0 + G15 ≤ G) ∧ ∀ (x22 : Int) (e22 : x22 = len (vv Θ15 v19)) (r22 : -2147483648 ≤ x22 ∧ x22 < 2147483648), W2_X7_take_28 ω d G l0 v1 ((x22 - 1)) (0 + G15) Θ15 Q)) : w2_X7_take ω d G l0 l1 Θ Q := sorry
set_option maxHeartbeats 4000000 in
theorem s2_X7_take_28 {ω : AO} {d G : Nat} {l0 l2 l3 : Int} {g : Nat} {Θ : Th} {Q : Th → Prop} (hB : (-2147483648 ≤ l3 ∧ l3 < 2147483648) ∧ (∀ (c29 : l3 < 0), (g ≤ G) ∧ Q Θ) ∧ (∀ (c29 : 0 ≤ l3), (kd Θ l0 = 21) ∧ ∀ (v33 : Int) (e33 : v33 = gt (vv Θ l0) 8) (r33 : -1 ≤ v33), (1 ≤ d) ∧ (kd Θ v33 = 3) ∧ (0 ≤ l3 ∧ l3 < len (vv Θ v33)) ∧ (3 ≤ d) ∧ (g ≤ G) ∧ ∀ (x37 : Int) (e37 : x37 = gt (vv Θ v33) l3) (r37 : -1 ≤ x37), (x37 < 0 ∨ kd Θ x37 ∈ [7]) ∧ (kd Θ x37 = 7) ∧ ∀ (x43 : Int) (e43 : x43 = gt (vv Θ x37) 0) (r43 : -2147483648 ≤ x43 ∧ x43 < 2147483648), (-2147483648 ≤ l2 ∧ l2 < 2147483648) ∧ (∀ (c47 : ¬ x43 = l2), W2_X7_take_28 ω d G l0 l2 ((l3 + (-1))) (g) Θ Q) ∧ (∀ (c47 : x43 = l2), ∀ (v51 : Int) (e51 : v51 = gt (vv Θ l0) 8) (r51 : -1 ≤ v51), (kd Θ v51 = 3) ∧ (¬ fz Θ v51) ∧ (0 ≤ l3 ∧ l3 < len (vv Θ v51)) ∧ ∀ (x55 : Int) (e55 : x55 = gt (vv Θ v51) l3) (r55 : -1 ≤ x55), ∀ (k55 : Int) (Θ55 : Th) (t55 : Θ55 = uq Θ v51 (3, del (vv Θ v51) l3, cp Θ v51, k55)), W2_X7_take_28 ω d G l0 l2 ((l3 + (-1))) (g) Θ55 Q))) : W2_X7_take_28 ω d G l0 l2 l3 g Θ Q := sorry
def W2_X7_merge_10 (ω : AO) (d G : Nat) (l0 l1 l2 l3 : Int) (g : Nat) (Θ : Th) (Q : Th → Prop) : Prop := Hid (SJ2 ω yX7_merge cX7_merge 9 none d G (fun Sz Θz => (eU Sz (q2U ω Θz Q))) 10 [(2, l0), (0, l1), (2, l2), (0, l3), vN, vN, vN, vN, vN] [] g Θ)
def W2_X7_merge_145 (ω : AO) (d G : Nat) (l0 l1 l2 l3 l4 l5 : Int) (g : Nat) (Θ : Th) (Q : Th → Prop) : Prop := Hid (SJ2 ω yX7_merge cX7_merge 9 none d G (fun Sz Θz => (eU Sz (q2U ω Θz Q))) 145 [(2, l0), (0, l1), (2, l2), (2, l3), (2, l4), (0, l5), vN, vN, vN] [] g Θ)
def W2_X7_merge_40 (ω : AO) (d G : Nat) (l0 l1 l2 l3 l4 l5 : Int) (g : Nat) (Θ : Th) (Q : Th → Prop) : Prop := Hid (SJ2 ω yX7_merge cX7_merge 9 none d G (fun Sz Θz => (eU Sz (q2U ω Θz Q))) 40 [(2, l0), (0, l1), (2, l2), (0, l3), (2, l4), (0, l5), vN, vN, vN] [] g Θ)
def W2_X7_merge_323 (ω : AO) (d G : Nat) (l0 l1 l2 l3 : Int) (g : Nat) (Θ : Th) (Q : Th → Prop) : Prop := Hid (SJ2 ω yX7_merge cX7_merge 9 none d G (fun Sz Θz => (eU Sz (q2U ω Θz Q))) 323 [(2, l0), (0, l1), (2, l2), (2, l3), vN, vN, vN, vN, vN] [] g Θ)
def W2_X7_merge_189 (ω : AO) (d G : Nat) (l0 l1 l2 l3 l4 l6 l7 : Int) (g : Nat) (Θ : Th) (Q : Th → Prop) : Prop := Hid (SJ2 ω yX7_merge cX7_merge 9 none d G (fun Sz Θz => (eU Sz (q2U ω Θz Q))) 189 [(2, l0), (0, l1), (2, l2), (2, l3), (2, l4), vN, (2, l6), (0, l7), vN] [] g Θ)
def W2_X7_merge_311 (ω : AO) (d G : Nat) (l0 l1 l2 l3 l4 : Int) (g : Nat) (Θ : Th) (Q : Th → Prop) : Prop := Hid (SJ2 ω yX7_merge cX7_merge 9 none d G (fun Sz Θz => (eU Sz (q2U ω Θz Q))) 311 [(2, l0), (0, l1), (2, l2), (2, l3), (2, l4), vN, vN, vN, vN] [] g Θ)
set_option maxHeartbeats 4000000 in
theorem s2_X7_merge {ω : AO} {d G : Nat} {l0 l1 : Int} {Θ : Th} {Q : Th → Prop} (hB : (0 + 1 ≤ G) ∧ ∀ (v0 : Int) (Θ0 : Th) (u0 : nt Θ ≤ v0 ∧ 0 ≤ v0) (b0 : Bl Θ) (t0 : Θ0 = nu Θ v0 (203, [], 0, 0)), (1 ≤ d) ∧ (4 ≤ d) ∧ ∀ (k4 : Int) (Θ4 : Th) (t4 : Θ4 = uq Θ0 v0 (3, [], 0, k4)), W2_X7_merge_10 ω d G l0 l1 v0 l1 (0 + 1) Θ4 Q) : w2_X7_merge ω d G l0 l1 Θ Q := sorry
set_option maxHeartbeats 4000000 in
theorem s2_X7_merge_10 {ω : AO} {d G : Nat} {l0 l1 l2 l3 : Int} {g : Nat} {Θ : Th} {Q : Th → Prop} (hB : (kd Θ l0 = 21) ∧ ∀ (v12 : Int) (e12 : v12 = gt (vv Θ l0) 0) (r12 : -1 ≤ v12), (1 ≤ d) ∧ (kd Θ v12 = 3) ∧ (g ≤ G) ∧ ∀ (x15 : Int) (e15 : x15 = len (vv Θ v12)) (r15 : -2147483648 ≤ x15 ∧ x15 < 2147483648), (-2147483648 ≤ l3 ∧ l3 < 2147483648) ∧ (∀ (c18 : x15 ≤ l3), ∃ G101 : Nat, (g + G101 ≤ G) ∧ w2_X7_fresh ω (d - 1) G101 l0 Θ (fun x101 Θ101 => ∀ (L101 : Le Θ Θ101) (r101 : -1 ≤ x101), ∀ (v105 : Int) (e105 : v105 = gt (vv Θ101 l0) 0) (r105 : -1 ≤ v105), (kd Θ101 v105 = 3) ∧ (0 ≤ l1 ∧ l1 < len (vv Θ101 v105)) ∧ (3 ≤ d) ∧ (g + G101 ≤ G) ∧ ∀ (x109 : Int) (e109 : x109 = gt (vv Θ101 v105) l1) (r109 : -1 ≤ x109), (x109 < 0 ∨ kd Θ101 x109 ∈ [54]) ∧ (kd Θ101 x109 = 54) ∧ ∀ (v115 : Int) (e115 : v115 = gt (vv Θ101 x109) 0) (r115 : -2147483648 ≤ v115 ∧ v115 < 2147483648), (kd Θ101 x101 = 54) ∧ ∃ G121 : Nat, (g + G101 + G121 ≤ G) ∧ w2_X49_begin ω (d - 1) G121 x101 (v115 + 1) l2 Θ101 (fun x121 Θ121 => ∀ (L121 : Le Θ101 Θ121) (r121 : -1 ≤ x121), ∀ (v126 : Int) (e126 : v126 = gt (vv Θ121 l0) 0) (r126 : -1 ≤ v126), (kd Θ121 v126 = 3) ∧ (g + G101 + G121 ≤ G) ∧ ∀ (x129 : Int) (e129 : x129 = len (vv Θ121 v126)) (r129 : -2147483648 ≤ x129 ∧ x129 < 2147483648), (0 ≤ x129) ∧ (x129 ≤ 60000000) ∧ (g + G101 + G121 + ((x129).toNat / 5 + 2) ≤ G) ∧ ∀ (v132 : Int) (Θ132 : Th) (u132 : nt Θ121 ≤ v132 ∧ 0 ≤ v132) (b132 : Bl Θ121) (t132 : Θ132 = nu Θ121 v132 (104, List.replicate (x129).toNat 0, 0, 0)), ∃ G140 : Nat, (g + G101 + G121 + ((x129).toNat / 5 + 2) + G140 ≤ G) ∧ w2_X7_leastAt ω (d - 1) G140 l0 l1 v132 Θ132 (fun x140 Θ140 => ∀ (L140 : Le Θ132 Θ140) (r140 : -2147483648 ≤ x140 ∧ x140 < 2147483648), W2_X7_merge_145 ω d G l0 l1 l2 x121 v132 x140 (g + G101 + G121 + ((x129).toNat / 5 + 2) + G140) Θ140 Q)))) ∧ (∀ (c18 : l3 < x15), ∀ (v22 : Int) (e22 : v22 = gt (vv Θ l0) 0) (r22 : -1 ≤ v22), (kd Θ v22 = 3) ∧ (0 ≤ l3 ∧ l3 < len (vv Θ v22)) ∧ (3 ≤ d) ∧ ∀ (x26 : Int) (e26 : x26 = gt (vv Θ v22) l3) (r26 : -1 ≤ x26), (x26 < 0 ∨ kd Θ x26 ∈ [54]) ∧ (kd Θ x26 = 54) ∧ ∀ (v32 : Int) (e32 : v32 = gt (vv Θ x26) 1) (r32 : -1 ≤ v32), W2_X7_merge_40 ω d G l0 l1 l2 l3 v32 0 (g) Θ Q)) : W2_X7_merge_10 ω d G l0 l1 l2 l3 g Θ Q := sorry
set_option maxHeartbeats 4000000 in
theorem s2_X7_merge_145 {ω : AO} {d G : Nat} {l0 l1 l2 l3 l4 l5 : Int} {g : Nat} {Θ : Th} {Q : Th → Prop} (hB : (-2147483648 ≤ l5 ∧ l5 < 2147483648) ∧ (∀ (c147 : l5 < 0), W2_X7_merge_323 ω d G l0 l1 l2 l3 (g) Θ Q) ∧ (∀ (c147 : 0 ≤ l5), (kd Θ l0 = 21) ∧ ∀ (v151 : Int) (e151 : v151 = gt (vv Θ l0) 0) (r151 : -1 ≤ v151), (1 ≤ d) ∧ (kd Θ v151 = 3) ∧ (0 ≤ l5 ∧ l5 < len (vv Θ v151)) ∧ (3 ≤ d) ∧ (g ≤ G) ∧ ∀ (x156 : Int) (e156 : x156 = gt (vv Θ v151) l5) (r156 : -1 ≤ x156), (x156 < 0 ∨ kd Θ x156 ∈ [54]) ∧ (kd Θ x156 = 54) ∧ ∀ (v162 : Int) (e162 : v162 = gt (vv Θ x156) 2) (r162 : -1 ≤ v162), (kd Θ l4 = 104) ∧ (0 ≤ l5 ∧ l5 < len (vv Θ l4)) ∧ ∀ (v169 : Int) (e169 : v169 = gt (vv Θ l4) l5) (r169 : -2147483648 ≤ v169 ∧ v169 < 2147483648), (kd Θ v162 = 3) ∧ (0 ≤ v169 ∧ v169 < len (vv Θ v162)) ∧ ∀ (x170 : Int) (e170 : x170 = gt (vv Θ v162) v169) (r170 : -1 ≤ x170), (x170 < 0 ∨ kd Θ x170 ∈ [2]) ∧ ∀ (v179 : Int) (e179 : v179 = gt (vv Θ l0) 4) (r179 : -1 ≤ v179), (kd Θ v179 = 23) ∧ (¬ fz Θ v179) ∧ (0 ≤ (0 : Int) ∧ 0 ≤ len (vv Θ v179)) ∧ ∀ (Θ183 : Th) (t183 : Θ183 = pm Θ v179 0), W2_X7_merge_189 ω d G l0 l1 l2 l3 l4 x170 l1 (g) Θ183 Q)) : W2_X7_merge_145 ω d G l0 l1 l2 l3 l4 l5 g Θ Q := sorry
set_option maxHeartbeats 4000000 in
theorem s2_X7_merge_40 {ω : AO} {d G : Nat} {l0 l1 l2 l3 l4 l5 : Int} {g : Nat} {Θ : Th} {Q : Th → Prop} (hB : (1 ≤ d) ∧ (kd Θ l4 = 3) ∧ (g ≤ G) ∧ ∀ (x44 : Int) (e44 : x44 = len (vv Θ l4)) (r44 : -2147483648 ≤ x44 ∧ x44 < 2147483648), (-2147483648 ≤ l5 ∧ l5 < 2147483648) ∧ (∀ (c47 : x44 ≤ l5), W2_X7_merge_10 ω d G l0 l1 l2 ((l3 + 1)) (g) Θ Q) ∧ (∀ (c47 : l5 < x44), (kd Θ l0 = 21) ∧ ∀ (v51 : Int) (e51 : v51 = gt (vv Θ l0) 3) (r51 : -1 ≤ v51), (0 ≤ l5 ∧ l5 < len (vv Θ l4)) ∧ (3 ≤ d) ∧ ∀ (x58 : Int) (e58 : x58 = gt (vv Θ l4) l5) (r58 : -1 ≤ x58), (x58 < 0 ∨ kd Θ x58 ∈ [7]) ∧ (kd Θ x58 = 7) ∧ ∀ (x64 : Int) (e64 : x64 = gt (vv Θ x58) 0) (r64 : -2147483648 ≤ x64 ∧ x64 < 2147483648), (kd Θ v51 = 22) ∧ ∃ G67 : Nat, (g + G67 ≤ G) ∧ w2_X8_get ω (d - 1) G67 v51 x64 Θ (fun x67 Θ67 => ∀ (L67 : Le Θ Θ67) (r67 : x67 = 0 ∨ x67 = 1), (∀ (c70 : ¬ x67 = 0), W2_X7_merge_40 ω d G l0 l1 l2 l3 l4 ((l5 + 1)) (g + G67) Θ67 Q) ∧ (∀ (c70 : x67 = 0), (0 ≤ l5 ∧ l5 < len (vv Θ67 l4)) ∧ (g + G67 ≤ G) ∧ ∀ (x78 : Int) (e78 : x78 = gt (vv Θ67 l4) l5) (r78 : -1 ≤ x78), (x78 < 0 ∨ kd Θ67 x78 ∈ [7]) ∧ (kd Θ67 l2 = 3) ∧ (¬ fz Θ67 l2) ∧ (rf Θ67 x78) ∧ (adC (cp Θ67 l2) (len (vv Θ67 l2)) ≤ 60000000) ∧ (7 ≤ d) ∧ (g + G67 + (adC (cp Θ67 l2) (len (vv Θ67 l2)) - cp Θ67 l2).toNat ≤ G) ∧ ∀ (k84 : Int) (Θ84 : Th) (t84 : Θ84 = uq Θ67 l2 (3, vv Θ67 l2 ++ [x78], adC (cp Θ67 l2) (len (vv Θ67 l2)), k84)), W2_X7_merge_40 ω d G l0 l1 l2 l3 l4 ((l5 + 1)) (g + G67 + (adC (cp Θ67 l2) (len (vv Θ67 l2)) - cp Θ67 l2).toNat) Θ84 Q)))) : W2_X7_merge_40 ω d G l0 l1 l2 l3 l4 l5 g Θ Q := sorry
set_option maxHeartbeats 4000000 in
theorem s2_X7_merge_323 {ω : AO} {d G : Nat} {l0 l1 l2 l3 : Int} {g : Nat} {Θ : Th} {Q : Th → Prop} (hB : (kd Θ l0 = 21) ∧ ∀ (v324 : Int) (e324 : v324 = gt (vv Θ l0) 0) (r324 : -1 ≤ v324), (1 ≤ d) ∧ (kd Θ v324 = 3) ∧ (g ≤ G) ∧ ∀ (x327 : Int) (e327 : x327 = len (vv Θ v324)) (r327 : -2147483648 ≤ x327 ∧ x327 < 2147483648), (-2147483648 ≤ l1 ∧ l1 < 2147483648) ∧ (∀ (c331 : x327 ≤ l1), (kd Θ l2 = 3) ∧ ∀ (x365 : Int) (e365 : x365 = if vv Θ l2 = [] then 1 else 0) (r365 : x365 = 0 ∨ x365 = 1), (∀ (c368 : x365 = 0), ∀ (v384 : Int) (e384 : v384 = gt (vv Θ l0) 0) (r384 : -1 ≤ v384), (kd Θ v384 = 3) ∧ (¬ fz Θ v384) ∧ (rf Θ l3) ∧ (adC (cp Θ v384) (len (vv Θ v384)) ≤ 60000000) ∧ (7 ≤ d) ∧ (g + (adC (cp Θ v384) (len (vv Θ v384)) - cp Θ v384).toNat ≤ G) ∧ ∀ (k388 : Int) (Θ388 : Th) (t388 : Θ388 = uq Θ v384 (3, vv Θ v384 ++ [l3], adC (cp Θ v384) (len (vv Θ v384)), k388)), Q Θ388) ∧ (∀ (c368 : ¬ x365 = 0), ∀ (v372 : Int) (e372 : v372 = gt (vv Θ l0) 9) (r372 : -1 ≤ v372), (kd Θ v372 = 3) ∧ (¬ fz Θ v372) ∧ (rf Θ l3) ∧ (adC (cp Θ v372) (len (vv Θ v372)) ≤ 60000000) ∧ (7 ≤ d) ∧ (g + (adC (cp Θ v372) (len (vv Θ v372)) - cp Θ v372).toNat ≤ G) ∧ ∀ (k376 : Int) (Θ376 : Th) (t376 : Θ376 = uq Θ v372 (3, vv Θ v372 ++ [l3], adC (cp Θ v372) (len (vv Θ v372)), k376)), Q Θ376)) ∧ (∀ (c331 : l1 < x327), ∀ (v335 : Int) (e335 : v335 = gt (vv Θ l0) 9) (r335 : -1 ≤ v335), ∀ (v339 : Int) (e339 : v339 = gt (vv Θ l0) 0) (r339 : -1 ≤ v339), ∀ (v343 : Int) (e343 : v343 = gt (vv Θ l0) 0) (r343 : -1 ≤ v343), (kd Θ v343 = 3) ∧ ∀ (x346 : Int) (e346 : x346 = len (vv Θ v343)) (r346 : -2147483648 ≤ x346 ∧ x346 < 2147483648), (kd Θ v339 = 3) ∧ (¬ fz Θ v339) ∧ (0 ≤ (x346 - 1) ∧ (x346 - 1) < len (vv Θ v339)) ∧ (3 ≤ d) ∧ ∀ (x351 : Int) (e351 : x351 = gt (vv Θ v339) (x346 - 1)) (r351 : -1 ≤ x351), ∀ (k351 : Int) (Θ351 : Th) (t351 : Θ351 = uq Θ v339 (3, del (vv Θ v339) (x346 - 1), cp Θ v339, k351)), (x351 < 0 ∨ kd Θ351 x351 ∈ [54]) ∧ (kd Θ351 v335 = 3) ∧ (¬ fz Θ351 v335) ∧ (rf Θ351 x351) ∧ (adC (cp Θ351 v335) (len (vv Θ351 v335)) ≤ 60000000) ∧ (7 ≤ d) ∧ (g + (adC (cp Θ351 v335) (len (vv Θ351 v335)) - cp Θ351 v335).toNat ≤ G) ∧ ∀ (k357 : Int) (Θ357 : Th) (t357 : Θ357 = uq Θ351 v335 (3, vv Θ351 v335 ++ [x351], adC (cp Θ351 v335) (len (vv Θ351 v335)), k357)), W2_X7_merge_323 ω d G l0 l1 l2 l3 (g + (adC (cp Θ351 v335) (len (vv Θ351 v335)) - cp Θ351 v335).toNat) Θ357 Q)) : W2_X7_merge_323 ω d G l0 l1 l2 l3 g Θ Q := sorry
set_option maxHeartbeats 4000000 in
theorem s2_X7_merge_189 {ω : AO} {d G : Nat} {l0 l1 l2 l3 l4 l6 l7 : Int} {g : Nat} {Θ : Th} {Q : Th → Prop} (hB : (kd Θ l0 = 21) ∧ ∀ (v192 : Int) (e192 : v192 = gt (vv Θ l0) 0) (r192 : -1 ≤ v192), (1 ≤ d) ∧ (kd Θ v192 = 3) ∧ (g ≤ G) ∧ ∀ (x195 : Int) (e195 : x195 = len (vv Θ v192)) (r195 : -2147483648 ≤ x195 ∧ x195 < 2147483648), (-2147483648 ≤ l7 ∧ l7 < 2147483648) ∧ (∀ (c198 : x195 ≤ l7), ∀ (v292 : Int) (e292 : v292 = gt (vv Θ l0) 4) (r292 : -1 ≤ v292), (kd Θ v292 = 23) ∧ ∀ (v295 : Int) (e295 : v295 = len (vv Θ v292)) (r295 : -2147483648 ≤ v295 ∧ v295 < 2147483648), (∀ (c298 : v295 ≤ 0), W2_X7_merge_311 ω d G l0 l1 l2 l3 l4 (g) Θ Q) ∧ (∀ (c298 : 0 < v295), ∀ (v305 : Int) (e305 : v305 = gt (vv Θ l0) 4) (r305 : -1 ≤ v305), (kd Θ l3 = 54) ∧ ∃ G308 : Nat, (g + G308 ≤ G) ∧ w2_X49_add ω (d - 1) G308 l3 l6 v305 Θ (fun Θ308 => ∀ (L308 : Le Θ Θ308), W2_X7_merge_311 ω d G l0 l1 l2 l3 l4 (g + G308) Θ308 Q))) ∧ (∀ (c198 : l7 < x195), ∀ (v202 : Int) (e202 : v202 = gt (vv Θ l0) 0) (r202 : -1 ≤ v202), (kd Θ v202 = 3) ∧ (0 ≤ l7 ∧ l7 < len (vv Θ v202)) ∧ (3 ≤ d) ∧ ∀ (x207 : Int) (e207 : x207 = gt (vv Θ v202) l7) (r207 : -1 ≤ x207), (x207 < 0 ∨ kd Θ x207 ∈ [54]) ∧ (kd Θ l4 = 104) ∧ (0 ≤ l7 ∧ l7 < len (vv Θ l4)) ∧ ∀ (v219 : Int) (e219 : v219 = gt (vv Θ l4) l7) (r219 : -2147483648 ≤ v219 ∧ v219 < 2147483648), (kd Θ x207 = 54) ∧ ∀ (v222 : Int) (e222 : v222 = gt (vv Θ x207) 2) (r222 : -1 ≤ v222), (kd Θ v222 = 3) ∧ ∀ (x225 : Int) (e225 : x225 = len (vv Θ v222)) (r225 : -2147483648 ≤ x225 ∧ x225 < 2147483648), (∀ (c228 : v219 = x225), W2_X7_merge_189 ω d G l0 l1 l2 l3 l4 l6 ((l7 + 1)) (g) Θ Q) ∧ (∀ (c228 : ¬ v219 = x225), ∀ (v233 : Int) (e233 : v233 = gt (vv Θ x207) 2) (r233 : -1 ≤ v233), ∀ (v240 : Int) (e240 : v240 = gt (vv Θ l4) l7) (r240 : -2147483648 ≤ v240 ∧ v240 < 2147483648), (kd Θ v233 = 3) ∧ (0 ≤ v240 ∧ v240 < len (vv Θ v233)) ∧ ∀ (x241 : Int) (e241 : x241 = gt (vv Θ v233) v240) (r241 : -1 ≤ x241), (x241 < 0 ∨ kd Θ x241 ∈ [2]) ∧ (kd Θ x241 = 2) ∧ (kd Θ l6 = 2) ∧ (2 ≤ d) ∧ ∀ (x249 : Int) (e249 : x249 = if vv Θ x241 = vv Θ l6 then 1 else 0) (r249 : x249 = 0 ∨ x249 = 1), (∀ (c252 : ¬ x249 = 0), ∀ (v264 : Int) (e264 : v264 = gt (vv Θ l4) l7) (r264 : -2147483648 ≤ v264 ∧ v264 < 2147483648), ∀ (v266 : Int) (e266 : v266 = gt (vv Θ l0) 3) (r266 : -1 ≤ v266), ∀ (v270 : Int) (e270 : v270 = gt (vv Θ l0) 4) (r270 : -1 ≤ v270), ∃ G273 : Nat, (g + G273 ≤ G) ∧ w2_X49_read ω (d - 1) G273 x207 v264 v266 v270 Θ (fun Θ273 => ∀ (L273 : Le Θ Θ273), (0 ≤ l7 ∧ l7 < len (vv Θ273 l4)) ∧ ∀ (v281 : Int) (e281 : v281 = gt (vv Θ273 l4) l7) (r281 : -2147483648 ≤ v281 ∧ v281 < 2147483648), (¬ fz Θ273 l4) ∧ (-2147483648 ≤ (v281 + 1) ∧ (v281 + 1) < 2147483648) ∧ ∀ (Θ284 : Th) (t284 : Θ284 = pf Θ273 l4 l7 (v281 + 1)), W2_X7_merge_189 ω d G l0 l1 l2 l3 l4 l6 ((l7 + 1)) (g + G273) Θ284 Q)) ∧ (∀ (c252 : x249 = 0), W2_X7_merge_189 ω d G l0 l1 l2 l3 l4 l6 ((l7 + 1)) (g) Θ Q)))) : W2_X7_merge_189 ω d G l0 l1 l2 l3 l4 l6 l7 g Θ Q := sorry
set_option maxHeartbeats 4000000 in
theorem s2_X7_merge_311 {ω : AO} {d G : Nat} {l0 l1 l2 l3 l4 : Int} {g : Nat} {Θ : Th} {Q : Th → Prop} (hB : (1 ≤ d) ∧ (kd Θ l0 = 21) ∧ ∃ G315 : Nat, (g + G315 ≤ G) ∧ w2_X7_leastAt ω (d - 1) G315 l0 l1 l4 Θ (fun x315 Θ315 => ∀ (L315 : Le Θ Θ315) (r315 : -2147483648 ≤ x315 ∧ x315 < 2147483648), W2_X7_merge_145 ω d G l0 l1 l2 l3 l4 x315 (g + G315) Θ315 Q)) : W2_X7_merge_311 ω d G l0 l1 l2 l3 l4 g Θ Q := sorry
def W2_X7_segment_24 (ω : AO) (d G : Nat) (l0 l1 l2 l3 : Int) (g : Nat) (Θ : Th) (Q : Int → Th → Prop) : Prop := Hid (SJ2 ω yX7_segment cX7_segment 7 (some (.object "MailWorks$Segment")) d G (fun Sz Θz => (eA Sz (q2 ω Θz Q))) 24 [(2, l0), (2, l1), (2, l2), (0, l3), vN, vN, vN] [] g Θ)
def W2_X7_segment_71 (ω : AO) (d G : Nat) (l0 l1 l2 l4 l5 : Int) (g : Nat) (Θ : Th) (Q : Int → Th → Prop) : Prop := Hid (SJ2 ω yX7_segment cX7_segment 7 (some (.object "MailWorks$Segment")) d G (fun Sz Θz => (eA Sz (q2 ω Θz Q))) 71 [(2, l0), (2, l1), (2, l2), vN, (2, l4), (0, l5), vN] [] g Θ)
set_option maxHeartbeats 4000000 in
theorem s2_X7_segment {ω : AO} {d G : Nat} {l0 : Int} {Θ : Th} {Q : Int → Th → Prop} (hB : (1 ≤ d) ∧ (kd Θ l0 = 21) ∧ ∃ G1 : Nat, (0 + G1 ≤ G) ∧ w2_X7_fresh ω (d - 1) G1 l0 Θ (fun x1 Θ1 => ∀ (L1 : Le Θ Θ1) (r1 : -1 ≤ x1), ∀ (v6 : Int) (e6 : v6 = gt (vv Θ1 l0) 8) (r6 : -1 ≤ v6), (kd Θ1 x1 = 54) ∧ ∃ G9 : Nat, (0 + G1 + G9 ≤ G) ∧ w2_X49_begin ω (d - 1) G9 x1 0 v6 Θ1 (fun x9 Θ9 => ∀ (L9 : Le Θ1 Θ9) (r9 : -1 ≤ x9), (0 + G1 + G9 + 4 ≤ G) ∧ ∀ (v15 : Int) (Θ15 : Th) (u15 : nt Θ9 ≤ v15 ∧ 0 ≤ v15) (b15 : Bl Θ9) (t15 : Θ15 = nu Θ9 v15 (104, List.replicate ((12 : Int)).toNat 0, 0, 0)), ∃ G20 : Nat, (0 + G1 + G9 + 4 + G20 ≤ G) ∧ w2_X7_firstOf ω (d - 1) G20 l0 v15 Θ15 (fun x20 Θ20 => ∀ (L20 : Le Θ15 Θ20) (r20 : -2147483648 ≤ x20 ∧ x20 < 2147483648), W2_X7_segment_24 ω d G l0 x9 v15 x20 (0 + G1 + G9 + 4 + G20) Θ20 Q)))) : w2_X7_segment ω d G l0 Θ Q := sorry
set_option maxHeartbeats 4000000 in
theorem s2_X7_segment_24 {ω : AO} {d G : Nat} {l0 l1 l2 l3 : Int} {g : Nat} {Θ : Th} {Q : Int → Th → Prop} (hB : (-2147483648 ≤ l3 ∧ l3 < 2147483648) ∧ (∀ (c25 : l3 < 0), (g ≤ G) ∧ (-1 ≤ l1) ∧ Q l1 Θ) ∧ (∀ (c25 : 0 ≤ l3), (kd Θ l0 = 21) ∧ ∀ (v30 : Int) (e30 : v30 = gt (vv Θ l0) 8) (r30 : -1 ≤ v30), (1 ≤ d) ∧ (kd Θ v30 = 3) ∧ (0 ≤ l3 ∧ l3 < len (vv Θ v30)) ∧ (3 ≤ d) ∧ (g ≤ G) ∧ ∀ (x34 : Int) (e34 : x34 = gt (vv Θ v30) l3) (r34 : -1 ≤ x34), (x34 < 0 ∨ kd Θ x34 ∈ [7]) ∧ (kd Θ x34 = 7) ∧ ∀ (x40 : Int) (e40 : x40 = gt (vv Θ x34) 0) (r40 : -2147483648 ≤ x40 ∧ x40 < 2147483648), ∃ G43 : Nat, (g + G43 ≤ G) ∧ w2_X7_wordsOf ω (d - 1) G43 l0 x40 Θ (fun x43 Θ43 => ∀ (L43 : Le Θ Θ43) (r43 : -1 ≤ x43), (kd Θ43 x43 = 53) ∧ ∀ (v46 : Int) (e46 : v46 = gt (vv Θ43 x43) 0) (r46 : -1 ≤ v46), (kd Θ43 l2 = 104) ∧ (0 ≤ l3 ∧ l3 < len (vv Θ43 l2)) ∧ ∀ (v51 : Int) (e51 : v51 = gt (vv Θ43 l2) l3) (r51 : -2147483648 ≤ v51 ∧ v51 < 2147483648), (kd Θ43 v46 = 3) ∧ (0 ≤ v51 ∧ v51 < len (vv Θ43 v46)) ∧ (g + G43 ≤ G) ∧ ∀ (x52 : Int) (e52 : x52 = gt (vv Θ43 v46) v51) (r52 : -1 ≤ x52), (x52 < 0 ∨ kd Θ43 x52 ∈ [2]) ∧ ∀ (v61 : Int) (e61 : v61 = gt (vv Θ43 l0) 4) (r61 : -1 ≤ v61), (kd Θ43 v61 = 23) ∧ (¬ fz Θ43 v61) ∧ (0 ≤ (0 : Int) ∧ 0 ≤ len (vv Θ43 v61)) ∧ ∀ (Θ65 : Th) (t65 : Θ65 = pm Θ43 v61 0), W2_X7_segment_71 ω d G l0 l1 l2 x52 0 (g + G43) Θ65 Q))) : W2_X7_segment_24 ω d G l0 l1 l2 l3 g Θ Q := sorry
set_option maxHeartbeats 4000000 in
theorem s2_X7_segment_71 {ω : AO} {d G : Nat} {l0 l1 l2 l4 l5 : Int} {g : Nat} {Θ : Th} {Q : Int → Th → Prop} (hB : (kd Θ l0 = 21) ∧ ∀ (v74 : Int) (e74 : v74 = gt (vv Θ l0) 8) (r74 : -1 ≤ v74), (1 ≤ d) ∧ (kd Θ v74 = 3) ∧ (g ≤ G) ∧ ∀ (x77 : Int) (e77 : x77 = len (vv Θ v74)) (r77 : -2147483648 ≤ x77 ∧ x77 < 2147483648), (-2147483648 ≤ l5 ∧ l5 < 2147483648) ∧ (∀ (c80 : x77 ≤ l5), ∀ (v205 : Int) (e205 : v205 = gt (vv Θ l0) 4) (r205 : -1 ≤ v205), (kd Θ l1 = 54) ∧ ∃ G208 : Nat, (g + G208 ≤ G) ∧ w2_X49_add ω (d - 1) G208 l1 l4 v205 Θ (fun Θ208 => ∀ (L208 : Le Θ Θ208), ∃ G213 : Nat, (g + G208 + G213 ≤ G) ∧ w2_X7_firstOf ω (d - 1) G213 l0 l2 Θ208 (fun x213 Θ213 => ∀ (L213 : Le Θ208 Θ213) (r213 : -2147483648 ≤ x213 ∧ x213 < 2147483648), W2_X7_segment_24 ω d G l0 l1 l2 x213 (g + G208 + G213) Θ213 Q))) ∧ (∀ (c80 : l5 < x77), ∀ (v85 : Int) (e85 : v85 = gt (vv Θ l0) 8) (r85 : -1 ≤ v85), (kd Θ v85 = 3) ∧ (0 ≤ l5 ∧ l5 < len (vv Θ v85)) ∧ (3 ≤ d) ∧ ∀ (x90 : Int) (e90 : x90 = gt (vv Θ v85) l5) (r90 : -1 ≤ x90), (x90 < 0 ∨ kd Θ x90 ∈ [7]) ∧ (kd Θ x90 = 7) ∧ ∀ (x96 : Int) (e96 : x96 = gt (vv Θ x90) 0) (r96 : -2147483648 ≤ x96 ∧ x96 < 2147483648), ∃ G99 : Nat, (g + G99 ≤ G) ∧ w2_X7_wordsOf ω (d - 1) G99 l0 x96 Θ (fun x99 Θ99 => ∀ (L99 : Le Θ Θ99) (r99 : -1 ≤ x99), (kd Θ99 l2 = 104) ∧ (0 ≤ l5 ∧ l5 < len (vv Θ99 l2)) ∧ ∀ (v107 : Int) (e107 : v107 = gt (vv Θ99 l2) l5) (r107 : -2147483648 ≤ v107 ∧ v107 < 2147483648), (kd Θ99 x99 = 53) ∧ ∀ (v110 : Int) (e110 : v110 = gt (vv Θ99 x99) 0) (r110 : -1 ≤ v110), (kd Θ99 v110 = 3) ∧ (g + G99 ≤ G) ∧ ∀ (x113 : Int) (e113 : x113 = len (vv Θ99 v110)) (r113 : -2147483648 ≤ x113 ∧ x113 < 2147483648), (∀ (c116 : v107 = x113), W2_X7_segment_71 ω d G l0 l1 l2 l4 ((l5 + 1)) (g + G99) Θ99 Q) ∧ (∀ (c116 : ¬ v107 = x113), ∀ (v121 : Int) (e121 : v121 = gt (vv Θ99 x99) 0) (r121 : -1 ≤ v121), ∀ (v127 : Int) (e127 : v127 = gt (vv Θ99 l2) l5) (r127 : -2147483648 ≤ v127 ∧ v127 < 2147483648), (kd Θ99 v121 = 3) ∧ (0 ≤ v127 ∧ v127 < len (vv Θ99 v121)) ∧ ∀ (x128 : Int) (e128 : x128 = gt (vv Θ99 v121) v127) (r128 : -1 ≤ x128), (x128 < 0 ∨ kd Θ99 x128 ∈ [2]) ∧ (kd Θ99 x128 = 2) ∧ (kd Θ99 l4 = 2) ∧ (2 ≤ d) ∧ ∀ (x136 : Int) (e136 : x136 = if vv Θ99 x128 = vv Θ99 l4 then 1 else 0) (r136 : x136 = 0 ∨ x136 = 1), (∀ (c139 : ¬ x136 = 0), ∀ (v146 : Int) (e146 : v146 = gt (vv Θ99 l0) 4) (r146 : -1 ≤ v146), ∀ (v151 : Int) (e151 : v151 = gt (vv Θ99 x99) 1) (r151 : -1 ≤ v151), ∀ (v157 : Int) (e157 : v157 = gt (vv Θ99 l2) l5) (r157 : -2147483648 ≤ v157 ∧ v157 < 2147483648), (kd Θ99 v151 = 3) ∧ (0 ≤ v157 ∧ v157 < len (vv Θ99 v151)) ∧ ∀ (x158 : Int) (e158 : x158 = gt (vv Θ99 v151) v157) (r158 : -1 ≤ x158), (x158 < 0 ∨ kd Θ99 x158 ∈ [23]) ∧ ∀ (v165 : Int) (e165 : v165 = gt (vv Θ99 l0) 8) (r165 : -1 ≤ v165), (kd Θ99 v165 = 3) ∧ (0 ≤ l5 ∧ l5 < len (vv Θ99 v165)) ∧ ∀ (x170 : Int) (e170 : x170 = gt (vv Θ99 v165) l5) (r170 : -1 ≤ x170), (x170 < 0 ∨ kd Θ99 x170 ∈ [7]) ∧ (kd Θ99 x170 = 7) ∧ ∀ (x176 : Int) (e176 : x176 = gt (vv Θ99 x170) 0) (r176 : -2147483648 ≤ x176 ∧ x176 < 2147483648), (kd Θ99 v146 = 23) ∧ ∃ G184 : Nat, (g + G99 + G184 ≤ G) ∧ w2_X9_addAll ω (d - 1) G184 v146 x158 (x176 * 16384) Θ99 (fun Θ184 => ∀ (L184 : Le Θ99 Θ184), (0 ≤ l5 ∧ l5 < len (vv Θ184 l2)) ∧ ∀ (v191 : Int) (e191 : v191 = gt (vv Θ184 l2) l5) (r191 : -2147483648 ≤ v191 ∧ v191 < 2147483648), (¬ fz Θ184 l2) ∧ (-2147483648 ≤ (v191 + 1) ∧ (v191 + 1) < 2147483648) ∧ ∀ (Θ194 : Th) (t194 : Θ194 = pf Θ184 l2 l5 (v191 + 1)), W2_X7_segment_71 ω d G l0 l1 l2 l4 ((l5 + 1)) (g + G99 + G184) Θ194 Q)) ∧ (∀ (c139 : x136 = 0), W2_X7_segment_71 ω d G l0 l1 l2 l4 ((l5 + 1)) (g + G99) Θ99 Q))))) : W2_X7_segment_71 ω d G l0 l1 l2 l4 l5 g Θ Q := sorry
def W2_X7_flush_33 (ω : AO) (d G : Nat) (l0 : Int) (g : Nat) (Θ : Th) (Q : Th → Prop) : Prop := Hid (SJ2 ω yX7_flush cX7_flush 1 none d G (fun Sz Θz => (eU Sz (q2U ω Θz Q))) 33 [(2, l0)] [] g Θ)
set_option maxHeartbeats 4000000 in
theorem s2_X7_flush {ω : AO} {d G : Nat} {l0 : Int} {Θ : Th} {Q : Th → Prop} (hB : (kd Θ l0 = 21) ∧ ∀ (v1 : Int) (e1 : v1 = gt (vv Θ l0) 8) (r1 : -1 ≤ v1), (1 ≤ d) ∧ (kd Θ v1 = 3) ∧ ∀ (x4 : Int) (e4 : x4 = if vv Θ v1 = [] then 1 else 0) (r4 : x4 = 0 ∨ x4 = 1), (∀ (c7 : ¬ x4 = 0), W2_X7_flush_33 ω d G l0 (0) Θ Q) ∧ (∀ (c7 : x4 = 0), ∀ (v11 : Int) (e11 : v11 = gt (vv Θ l0) 0) (r11 : -1 ≤ v11), ∃ G15 : Nat, (0 + G15 ≤ G) ∧ w2_X7_segment ω (d - 1) G15 l0 Θ (fun x15 Θ15 => ∀ (L15 : Le Θ Θ15) (r15 : -1 ≤ x15), (kd Θ15 v11 = 3) ∧ (¬ fz Θ15 v11) ∧ (rf Θ15 x15) ∧ (adC (cp Θ15 v11) (len (vv Θ15 v11)) ≤ 60000000) ∧ (7 ≤ d) ∧ (0 + G15 + (adC (cp Θ15 v11) (len (vv Θ15 v11)) - cp Θ15 v11).toNat ≤ G) ∧ ∀ (k18 : Int) (Θ18 : Th) (t18 : Θ18 = uq Θ15 v11 (3, vv Θ15 v11 ++ [x15], adC (cp Θ15 v11) (len (vv Θ15 v11)), k18)), (0 + G15 + (adC (cp Θ15 v11) (len (vv Θ15 v11)) - cp Θ15 v11).toNat + 1 ≤ G) ∧ ∀ (v23 : Int) (Θ23 : Th) (u23 : nt Θ18 ≤ v23 ∧ 0 ≤ v23) (b23 : Bl Θ18) (t23 : Θ23 = nu Θ18 v23 (203, [], 0, 0)), (4 ≤ d) ∧ ∀ (k27 : Int) (Θ27 : Th) (t27 : Θ27 = uq Θ23 v23 (3, [], 0, k27)), (¬ fz Θ27 l0) ∧ ∀ (Θ30 : Th) (t30 : Θ30 = pf Θ27 l0 8 v23), W2_X7_flush_33 ω d G l0 (0 + G15 + (adC (cp Θ15 v11) (len (vv Θ15 v11)) - cp Θ15 v11).toNat + 1) Θ30 Q))) : w2_X7_flush ω d G l0 Θ Q := sorry
set_option maxHeartbeats 4000000 in
theorem s2_X7_flush_33 {ω : AO} {d G : Nat} {l0 : Int} {g : Nat} {Θ : Th} {Q : Th → Prop} (hB : (1 ≤ d) ∧ (kd Θ l0 = 21) ∧ ∃ G34 : Nat, (g + G34 ≤ G) ∧ w2_X7_areFour ω (d - 1) G34 l0 Θ (fun x34 Θ34 => ∀ (L34 : Le Θ Θ34) (r34 : x34 = 0 ∨ x34 = 1), (∀ (c37 : x34 = 0), (g + G34 ≤ G) ∧ Q Θ34) ∧ (∀ (c37 : ¬ x34 = 0), ∀ (v42 : Int) (e42 : v42 = gt (vv Θ34 l0) 0) (r42 : -1 ≤ v42), (kd Θ34 v42 = 3) ∧ (g + G34 ≤ G) ∧ ∀ (x45 : Int) (e45 : x45 = len (vv Θ34 v42)) (r45 : -2147483648 ≤ x45 ∧ x45 < 2147483648), ∃ G50 : Nat, (g + G34 + G50 ≤ G) ∧ w2_X7_merge ω (d - 1) G50 l0 (x45 - 4) Θ34 (fun Θ50 => ∀ (L50 : Le Θ34 Θ50), W2_X7_flush_33 ω d G l0 (g + G34 + G50) Θ50 Q)))) : W2_X7_flush_33 ω d G l0 g Θ Q := sorry
def W2_X7_add_36 (ω : AO) (d G : Nat) (l0 l1 l2 l3 : Int) (g : Nat) (Θ : Th) (Q : Th → Prop) : Prop := Hid (SJ2 ω yX7_add cX7_add 4 none d G (fun Sz Θz => (eU Sz (q2U ω Θz Q))) 36 [(2, l0), (2, l1), (0, l2), (0, l3)] [] g Θ)
set_option maxHeartbeats 4000000 in
theorem s2_X7_add {ω : AO} {d G : Nat} {l0 l1 : Int} {Θ : Th} {Q : Th → Prop} (hB : (kd Θ l0 = 21) ∧ ∀ (v1 : Int) (e1 : v1 = gt (vv Θ l0) 1) (r1 : -1 ≤ v1), (1 ≤ d) ∧ (kd Θ v1 = 3) ∧ ∀ (x4 : Int) (e4 : x4 = len (vv Θ v1)) (r4 : -2147483648 ≤ x4 ∧ x4 < 2147483648), ∀ (v9 : Int) (e9 : v9 = gt (vv Θ l0) 1) (r9 : -1 ≤ v9), (kd Θ v9 = 3) ∧ (¬ fz Θ v9) ∧ (rf Θ l1) ∧ (adC (cp Θ v9) (len (vv Θ v9)) ≤ 60000000) ∧ (7 ≤ d) ∧ (0 + (adC (cp Θ v9) (len (vv Θ v9)) - cp Θ v9).toNat ≤ G) ∧ ∀ (k13 : Int) (Θ13 : Th) (t13 : Θ13 = uq Θ v9 (3, vv Θ v9 ++ [l1], adC (cp Θ v9) (len (vv Θ v9)), k13)), ∀ (v18 : Int) (e18 : v18 = gt (vv Θ13 l0) 2) (r18 : -1 ≤ v18), (kd Θ13 l1 = 29) ∧ ∀ (v22 : Int) (e22 : v22 = gt (vv Θ13 l1) 3) (r22 : -1 ≤ v22), (kd Θ13 v18 = 3) ∧ (¬ fz Θ13 v18) ∧ (rf Θ13 v22) ∧ (adC (cp Θ13 v18) (len (vv Θ13 v18)) ≤ 60000000) ∧ (0 + (adC (cp Θ v9) (len (vv Θ v9)) - cp Θ v9).toNat + (adC (cp Θ13 v18) (len (vv Θ13 v18)) - cp Θ13 v18).toNat ≤ G) ∧ ∀ (k25 : Int) (Θ25 : Th) (t25 : Θ25 = uq Θ13 v18 (3, vv Θ13 v18 ++ [v22], adC (cp Θ13 v18) (len (vv Θ13 v18)), k25)), (¬ fz Θ25 l1) ∧ ∀ (Θ31 : Th) (t31 : Θ31 = pf Θ25 l1 9 x4), W2_X7_add_36 ω d G l0 l1 x4 0 (0 + (adC (cp Θ v9) (len (vv Θ v9)) - cp Θ v9).toNat + (adC (cp Θ13 v18) (len (vv Θ13 v18)) - cp Θ13 v18).toNat) Θ31 Q) : w2_X7_add ω d G l0 l1 Θ Q := sorry
set_option maxHeartbeats 4000000 in
theorem s2_X7_add_36 {ω : AO} {d G : Nat} {l0 l1 l2 l3 : Int} {g : Nat} {Θ : Th} {Q : Th → Prop} (hB : (-2147483648 ≤ l3 ∧ l3 < 2147483648) ∧ (∀ (c38 : 5 ≤ l3), (kd Θ l0 = 21) ∧ ∀ (v74 : Int) (e74 : v74 = gt (vv Θ l0) 8) (r74 : -1 ≤ v74), (1 ≤ d) ∧ ∃ G78 : Nat, (g + G78 ≤ G) ∧ w2_J19_valueOf ω (d - 1) G78 l2 Θ (fun x78 Θ78 => ∀ (L78 : Le Θ Θ78) (r78 : -1 ≤ x78), (kd Θ78 v74 = 3) ∧ (¬ fz Θ78 v74) ∧ (rf Θ78 x78) ∧ (adC (cp Θ78 v74) (len (vv Θ78 v74)) ≤ 60000000) ∧ (7 ≤ d) ∧ (g + G78 + (adC (cp Θ78 v74) (len (vv Θ78 v74)) - cp Θ78 v74).toNat ≤ G) ∧ ∀ (k81 : Int) (Θ81 : Th) (t81 : Θ81 = uq Θ78 v74 (3, vv Θ78 v74 ++ [x78], adC (cp Θ78 v74) (len (vv Θ78 v74)), k81)), ∀ (v86 : Int) (e86 : v86 = gt (vv Θ81 l0) 8) (r86 : -1 ≤ v86), (kd Θ81 v86 = 3) ∧ ∀ (x89 : Int) (e89 : x89 = len (vv Θ81 v86)) (r89 : -2147483648 ≤ x89 ∧ x89 < 2147483648), (∀ (c94 : ¬ x89 = 12), Q Θ81) ∧ (∀ (c94 : x89 = 12), ∃ G98 : Nat, (g + G78 + (adC (cp Θ78 v74) (len (vv Θ78 v74)) - cp Θ78 v74).toNat + G98 ≤ G) ∧ w2_X7_flush ω (d - 1) G98 l0 Θ81 (fun Θ98 => ∀ (L98 : Le Θ81 Θ98), (g + G78 + (adC (cp Θ78 v74) (len (vv Θ78 v74)) - cp Θ78 v74).toNat + G98 ≤ G) ∧ Q Θ98)))) ∧ (∀ (c38 : l3 < 5), (kd Θ l0 = 21) ∧ ∀ (v43 : Int) (e43 : v43 = gt (vv Θ l0) 7) (r43 : -2147483648 ≤ v43 ∧ v43 < 2147483648), (kd Θ l1 = 29) ∧ ∀ (v47 : Int) (e47 : v47 = gt (vv Θ l1) 3) (r47 : -1 ≤ v47), (kd Θ v47 = 32) ∧ ∀ (v50 : Int) (e50 : v50 = gt (vv Θ v47) 6) (r50 : -1 ≤ v50), (1 ≤ d) ∧ (kd Θ v50 = 3) ∧ (0 ≤ l3 ∧ l3 < len (vv Θ v50)) ∧ (3 ≤ d) ∧ (g ≤ G) ∧ ∀ (x54 : Int) (e54 : x54 = gt (vv Θ v50) l3) (r54 : -1 ≤ x54), (x54 < 0 ∨ kd Θ x54 ∈ [50]) ∧ (kd Θ x54 = 50) ∧ ∃ G60 : Nat, (g + G60 ≤ G) ∧ w2_X45_many ω (d - 1) G60 x54 Θ (fun x60 Θ60 => ∀ (L60 : Le Θ Θ60) (r60 : -2147483648 ≤ x60 ∧ x60 < 2147483648), (¬ fz Θ60 l0) ∧ (-2147483648 ≤ (v43 + x60) ∧ (v43 + x60) < 2147483648) ∧ ∀ (Θ64 : Th) (t64 : Θ64 = pf Θ60 l0 7 (v43 + x60)), W2_X7_add_36 ω d G l0 l1 l2 ((l3 + 1)) (g + G60) Θ64 Q))) : W2_X7_add_36 ω d G l0 l1 l2 l3 g Θ Q := sorry
def W2_X7_mailsOf_2 (ω : AO) (d G : Nat) (l0 l1 l2 l3 : Int) (g : Nat) (Θ : Th) (Q : Th → Prop) : Prop := Hid (SJ2 ω yX7_mailsOf cX7_mailsOf 4 none d G (fun Sz Θz => (eU Sz (q2U ω Θz Q))) 2 [(2, l0), (2, l1), (2, l2), (0, l3)] [] g Θ)
set_option maxHeartbeats 4000000 in
theorem s2_X7_mailsOf {ω : AO} {d G : Nat} {l0 l1 l2 : Int} {Θ : Th} {Q : Th → Prop} (hB : W2_X7_mailsOf_2 ω d G l0 l1 l2 0 (0) Θ Q) : w2_X7_mailsOf ω d G l0 l1 l2 Θ Q := sorry
set_option maxHeartbeats 4000000 in
theorem s2_X7_mailsOf_2 {ω : AO} {d G : Nat} {l0 l1 l2 l3 : Int} {g : Nat} {Θ : Th} {Q : Th → Prop} (hB : (kd Θ l1 = 23) ∧ ∀ (v4 : Int) (e4 : v4 = len (vv Θ l1)) (r4 : -2147483648 ≤ v4 ∧ v4 < 2147483648), (-2147483648 ≤ l3 ∧ l3 < 2147483648) ∧ (∀ (c7 : v4 ≤ l3), (g ≤ G) ∧ Q Θ) ∧ (∀ (c7 : l3 < v4), (kd Θ l0 = 21) ∧ ∀ (v12 : Int) (e12 : v12 = gt (vv Θ l0) 1) (r12 : -1 ≤ v12), (0 ≤ l3 ∧ l3 < len (vv Θ l1)) ∧ ∀ (v20 : Int) (e20 : v20 = gt (vv Θ l1) l3) (r20 : -9223372036854775808 ≤ v20 ∧ v20 < 9223372036854775808), (1 ≤ d) ∧ (kd Θ v12 = 3) ∧ (0 ≤ (Int.tdiv v20 16384) ∧ (Int.tdiv v20 16384) < len (vv Θ v12)) ∧ (3 ≤ d) ∧ (g ≤ G) ∧ ∀ (x26 : Int) (e26 : x26 = gt (vv Θ v12) (Int.tdiv v20 16384)) (r26 : -1 ≤ x26), (x26 < 0 ∨ kd Θ x26 ∈ [29]) ∧ (kd Θ x26 = 29) ∧ ∀ (v32 : Int) (e32 : v32 = gt (vv Θ x26) 0) (r32 : -2147483648 ≤ v32 ∧ v32 < 2147483648), (kd Θ l2 = 22) ∧ ∃ G35 : Nat, (g + G35 ≤ G) ∧ w2_X8_set ω (d - 1) G35 l2 v32 Θ (fun Θ35 => ∀ (L35 : Le Θ Θ35), W2_X7_mailsOf_2 ω d G l0 l1 l2 ((l3 + 1)) (g + G35) Θ35 Q))) : W2_X7_mailsOf_2 ω d G l0 l1 l2 l3 g Θ Q := sorry
def W2_X7_matching_30 (ω : AO) (d G : Nat) (l0 l2 l3 l4 : Int) (g : Nat) (Θ : Th) (Q : Th → Prop) : Prop := Hid (SJ2 ω yX7_matching cX7_matching 9 none d G (fun Sz Θz => (eU Sz (q2U ω Θz Q))) 30 [(2, l0), vN, (2, l2), (2, l3), (2, l4), vN, vN, vN, vN] [] g Θ)
def W2_X7_matching_33 (ω : AO) (d G : Nat) (l0 l2 l3 l4 l5 : Int) (g : Nat) (Θ : Th) (Q : Th → Prop) : Prop := Hid (SJ2 ω yX7_matching cX7_matching 9 none d G (fun Sz Θz => (eU Sz (q2U ω Θz Q))) 33 [(2, l0), vN, (2, l2), (2, l3), (2, l4), (0, l5), vN, vN, vN] [] g Θ)
def W2_X7_matching_177 (ω : AO) (d G : Nat) (l0 l2 l3 l4 l5 : Int) (g : Nat) (Θ : Th) (Q : Th → Prop) : Prop := Hid (SJ2 ω yX7_matching cX7_matching 9 none d G (fun Sz Θz => (eU Sz (q2U ω Θz Q))) 177 [(2, l0), vN, (2, l2), (2, l3), (2, l4), (0, l5), vN, vN, vN] [] g Θ)
def W2_X7_matching_71 (ω : AO) (d G : Nat) (l0 l2 l3 l4 l5 l6 l7 : Int) (g : Nat) (Θ : Th) (Q : Th → Prop) : Prop := Hid (SJ2 ω yX7_matching cX7_matching 9 none d G (fun Sz Θz => (eU Sz (q2U ω Θz Q))) 71 [(2, l0), vN, (2, l2), (2, l3), (2, l4), (0, l5), (2, l6), (0, l7), vN] [] g Θ)
def W2_X7_matching_226 (ω : AO) (d G : Nat) (l0 l2 l3 l4 l5 l6 l7 l8 : Int) (g : Nat) (Θ : Th) (Q : Th → Prop) : Prop := Hid (SJ2 ω yX7_matching cX7_matching 9 none d G (fun Sz Θz => (eU Sz (q2U ω Θz Q))) 226 [(2, l0), vN, (2, l2), (2, l3), (2, l4), (0, l5), (0, l6), (2, l7), (0, l8)] [] g Θ)
set_option maxHeartbeats 4000000 in
theorem s2_X7_matching {ω : AO} {d G : Nat} {l0 l1 l2 l3 : Int} {Θ : Th} {Q : Th → Prop} (hB : (0 + 1 ≤ G) ∧ ∀ (v0 : Int) (Θ0 : Th) (u0 : nt Θ ≤ v0 ∧ 0 ≤ v0) (b0 : Bl Θ) (t0 : Θ0 = nu Θ v0 (201, [], 0, 0)), (1 ≤ d) ∧ (3 ≤ d) ∧ (0 + 1 + 5 ≤ G) ∧ ∀ (Θ4 : Th) (t4 : Θ4 = uq Θ0 v0 (1, [], 16, 0)), (kd Θ4 l1 = 2) ∧ (¬ fz Θ4 v0) ∧ (bC (cp Θ4 v0) (len (vv Θ4 v0) + len (vv Θ4 l1)) ≤ 20000000) ∧ (11 ≤ d) ∧ (0 + 1 + 5 + (bK (bC (cp Θ4 v0) (len (vv Θ4 v0) + len (vv Θ4 l1))) (max (cx Θ4 v0) (wide (vv Θ4 l1))) - bK (cp Θ4 v0) (cx Θ4 v0)).toNat ≤ G) ∧ ∀ (Θ8 : Th) (t8 : Θ8 = uq Θ4 v0 (1, vv Θ4 v0 ++ vv Θ4 l1, bC (cp Θ4 v0) (len (vv Θ4 v0) + len (vv Θ4 l1)), max (cx Θ4 v0) (wide (vv Θ4 l1)))), (kd Θ8 l2 = 2) ∧ (7 ≤ d) ∧ ∀ (x16 : Int) (e16 : x16 = idx (vv Θ8 l2) (42 : Int) 0) (r16 : -2147483648 ≤ x16 ∧ x16 < 2147483648), (0 ≤ (0 : Int) ∧ (0 : Int) ≤ x16 ∧ x16 ≤ len (vv Θ8 l2)) ∧ ((0 : Int) < x16 ∨ wide (vv Θ8 l2) = 0 ∨ vv Θ8 l2 = []) ∧ (0 + 1 + 5 + (bK (bC (cp Θ4 v0) (len (vv Θ4 v0) + len (vv Θ4 l1))) (max (cx Θ4 v0) (wide (vv Θ4 l1))) - bK (cp Θ4 v0) (cx Θ4 v0)).toNat + (x16 - (0 : Int) + 5).toNat ≤ G) ∧ ∀ (x19 : Int) (Θ19 : Th) (e19 : NewS Θ8 Θ19 x19 (sub (vv Θ8 l2) (0 : Int) x16)), (¬ fz Θ19 v0) ∧ (bC (cp Θ19 v0) (len (vv Θ19 v0) + len (vv Θ19 x19)) ≤ 20000000) ∧ (0 + 1 + 5 + (bK (bC (cp Θ4 v0) (len (vv Θ4 v0) + len (vv Θ4 l1))) (max (cx Θ4 v0) (wide (vv Θ4 l1))) - bK (cp Θ4 v0) (cx Θ4 v0)).toNat + (x16 - (0 : Int) + 5).toNat + (bK (bC (cp Θ19 v0) (len (vv Θ19 v0) + len (vv Θ19 x19))) (max (cx Θ19 v0) (wide (vv Θ19 x19))) - bK (cp Θ19 v0) (cx Θ19 v0)).toNat ≤ G) ∧ ∀ (Θ22 : Th) (t22 : Θ22 = uq Θ19 v0 (1, vv Θ19 v0 ++ vv Θ19 x19, bC (cp Θ19 v0) (len (vv Θ19 v0) + len (vv Θ19 x19)), max (cx Θ19 v0) (wide (vv Θ19 x19)))), (len (vv Θ22 v0) ≤ 15000000) ∧ (8 ≤ d) ∧ (0 + 1 + 5 + (bK (bC (cp Θ4 v0) (len (vv Θ4 v0) + len (vv Θ4 l1))) (max (cx Θ4 v0) (wide (vv Θ4 l1))) - bK (cp Θ4 v0) (cx Θ4 v0)).toNat + (x16 - (0 : Int) + 5).toNat + (bK (bC (cp Θ19 v0) (len (vv Θ19 v0) + len (vv Θ19 x19))) (max (cx Θ19 v0) (wide (vv Θ19 x19))) - bK (cp Θ19 v0) (cx Θ19 v0)).toNat + (len (vv Θ22 v0) + 5).toNat ≤ G) ∧ ∀ (x25 : Int) (Θ25 : Th) (e25 : NewS Θ22 Θ25 x25 (vv Θ22 v0)) (n25 : nt Θ22 ≤ x25), W2_X7_matching_30 ω d G l0 l2 l3 x25 (0 + 1 + 5 + (bK (bC (cp Θ4 v0) (len (vv Θ4 v0) + len (vv Θ4 l1))) (max (cx Θ4 v0) (wide (vv Θ4 l1))) - bK (cp Θ4 v0) (cx Θ4 v0)).toNat + (x16 - (0 : Int) + 5).toNat + (bK (bC (cp Θ19 v0) (len (vv Θ19 v0) + len (vv Θ19 x19))) (max (cx Θ19 v0) (wide (vv Θ19 x19))) - bK (cp Θ19 v0) (cx Θ19 v0)).toNat + (len (vv Θ22 v0) + 5).toNat) Θ25 Q) : w2_X7_matching ω d G l0 l1 l2 l3 Θ Q := sorry
set_option maxHeartbeats 4000000 in
theorem s2_X7_matching_30 {ω : AO} {d G : Nat} {l0 l2 l3 l4 : Int} {g : Nat} {Θ : Th} {Q : Th → Prop} (hB : W2_X7_matching_33 ω d G l0 l2 l3 l4 0 (g) Θ Q) : W2_X7_matching_30 ω d G l0 l2 l3 l4 g Θ Q := sorry
set_option maxHeartbeats 4000000 in
theorem s2_X7_matching_33 {ω : AO} {d G : Nat} {l0 l2 l3 l4 l5 : Int} {g : Nat} {Θ : Th} {Q : Th → Prop} (hB : (kd Θ l0 = 21) ∧ ∀ (v36 : Int) (e36 : v36 = gt (vv Θ l0) 0) (r36 : -1 ≤ v36), (1 ≤ d) ∧ (kd Θ v36 = 3) ∧ (g ≤ G) ∧ ∀ (x39 : Int) (e39 : x39 = len (vv Θ v36)) (r39 : -2147483648 ≤ x39 ∧ x39 < 2147483648), (-2147483648 ≤ l5 ∧ l5 < 2147483648) ∧ (∀ (c42 : x39 ≤ l5), W2_X7_matching_177 ω d G l0 l2 l3 l4 0 (g) Θ Q) ∧ (∀ (c42 : l5 < x39), ∀ (v46 : Int) (e46 : v46 = gt (vv Θ l0) 0) (r46 : -1 ≤ v46), (kd Θ v46 = 3) ∧ (0 ≤ l5 ∧ l5 < len (vv Θ v46)) ∧ (3 ≤ d) ∧ ∀ (x51 : Int) (e51 : x51 = gt (vv Θ v46) l5) (r51 : -1 ≤ x51), (x51 < 0 ∨ kd Θ x51 ∈ [54]) ∧ (kd Θ x51 = 54) ∧ ∀ (v61 : Int) (e61 : v61 = gt (vv Θ x51) 2) (r61 : -1 ≤ v61), ∃ G66 : Nat, (g + G66 ≤ G) ∧ w2_X1_findIn ω (d - 1) G66 v61 l4 Θ (fun x66 Θ66 => ∀ (L66 : Le Θ Θ66) (r66 : -2147483648 ≤ x66 ∧ x66 < 2147483648), W2_X7_matching_71 ω d G l0 l2 l3 l4 l5 x51 x66 (g + G66) Θ66 Q))) : W2_X7_matching_33 ω d G l0 l2 l3 l4 l5 g Θ Q := sorry
set_option maxHeartbeats 4000000 in
theorem s2_X7_matching_177 {ω : AO} {d G : Nat} {l0 l2 l3 l4 l5 : Int} {g : Nat} {Θ : Th} {Q : Th → Prop} (hB : (kd Θ l0 = 21) ∧ ∀ (v180 : Int) (e180 : v180 = gt (vv Θ l0) 8) (r180 : -1 ≤ v180), (1 ≤ d) ∧ (kd Θ v180 = 3) ∧ (g ≤ G) ∧ ∀ (x183 : Int) (e183 : x183 = len (vv Θ v180)) (r183 : -2147483648 ≤ x183 ∧ x183 < 2147483648), (-2147483648 ≤ l5 ∧ l5 < 2147483648) ∧ (∀ (c186 : x183 ≤ l5), Q Θ) ∧ (∀ (c186 : l5 < x183), ∀ (v190 : Int) (e190 : v190 = gt (vv Θ l0) 8) (r190 : -1 ≤ v190), (kd Θ v190 = 3) ∧ (0 ≤ l5 ∧ l5 < len (vv Θ v190)) ∧ (3 ≤ d) ∧ ∀ (x195 : Int) (e195 : x195 = gt (vv Θ v190) l5) (r195 : -1 ≤ x195), (x195 < 0 ∨ kd Θ x195 ∈ [7]) ∧ (kd Θ x195 = 7) ∧ ∀ (x201 : Int) (e201 : x201 = gt (vv Θ x195) 0) (r201 : -2147483648 ≤ x201 ∧ x201 < 2147483648), ∃ G209 : Nat, (g + G209 ≤ G) ∧ w2_X7_wordsOf ω (d - 1) G209 l0 x201 Θ (fun x209 Θ209 => ∀ (L209 : Le Θ Θ209) (r209 : -1 ≤ x209), (kd Θ209 x209 = 53) ∧ ∀ (v212 : Int) (e212 : v212 = gt (vv Θ209 x209) 0) (r212 : -1 ≤ v212), ∃ G221 : Nat, (g + G209 + G221 ≤ G) ∧ w2_X1_findIn ω (d - 1) G221 v212 l4 Θ209 (fun x221 Θ221 => ∀ (L221 : Le Θ209 Θ221) (r221 : -2147483648 ≤ x221 ∧ x221 < 2147483648), W2_X7_matching_226 ω d G l0 l2 l3 l4 l5 x201 v212 x221 (g + G209 + G221) Θ221 Q)))) : W2_X7_matching_177 ω d G l0 l2 l3 l4 l5 g Θ Q := sorry
set_option maxHeartbeats 4000000 in
theorem s2_X7_matching_71 {ω : AO} {d G : Nat} {l0 l2 l3 l4 l5 l6 l7 : Int} {g : Nat} {Θ : Th} {Q : Th → Prop} (hB : (kd Θ l6 = 54) ∧ ∀ (v75 : Int) (e75 : v75 = gt (vv Θ l6) 2) (r75 : -1 ≤ v75), (1 ≤ d) ∧ (kd Θ v75 = 3) ∧ (g ≤ G) ∧ ∀ (x78 : Int) (e78 : x78 = len (vv Θ v75)) (r78 : -2147483648 ≤ x78 ∧ x78 < 2147483648), (-2147483648 ≤ l7 ∧ l7 < 2147483648) ∧ (∀ (c81 : x78 ≤ l7), W2_X7_matching_33 ω d G l0 l2 l3 l4 ((l5 + 1)) (g) Θ Q) ∧ (∀ (c81 : l7 < x78), ∀ (v86 : Int) (e86 : v86 = gt (vv Θ l6) 2) (r86 : -1 ≤ v86), (kd Θ v86 = 3) ∧ (0 ≤ l7 ∧ l7 < len (vv Θ v86)) ∧ (3 ≤ d) ∧ ∀ (x91 : Int) (e91 : x91 = gt (vv Θ v86) l7) (r91 : -1 ≤ x91), (x91 < 0 ∨ kd Θ x91 ∈ [2]) ∧ (kd Θ x91 = 2) ∧ (kd Θ l4 = 2) ∧ (-1000000000 ≤ (0 : Int) ∧ (0 : Int) ≤ 1000000000) ∧ (7 ≤ d) ∧ ∀ (x100 : Int) (e100 : x100 = if pAtB (vv Θ x91) (vv Θ l4) (0 : Int) then 1 else 0) (r100 : x100 = 0 ∨ x100 = 1), (∀ (c103 : x100 = 0), W2_X7_matching_33 ω d G l0 l2 l3 l4 ((l5 + 1)) (g) Θ Q) ∧ (∀ (c103 : ¬ x100 = 0), ∀ (v109 : Int) (e109 : v109 = gt (vv Θ l6) 2) (r109 : -1 ≤ v109), (kd Θ v109 = 3) ∧ (0 ≤ l7 ∧ l7 < len (vv Θ v109)) ∧ ∀ (x114 : Int) (e114 : x114 = gt (vv Θ v109) l7) (r114 : -1 ≤ x114), (x114 < 0 ∨ kd Θ x114 ∈ [2]) ∧ (kd Θ l2 = 2) ∧ (kd Θ x114 = 2) ∧ (0 ≤ (2 : Int) ∧ (2 : Int) ≤ 1000) ∧ (9 ≤ d) ∧ ∀ (x121 : Int) (e121 : x121 = if fitF (vv Θ l2) (vv Θ x114) (2 : Int) then 1 else 0) (r121 : x121 = 0 ∨ x121 = 1), (∀ (c124 : ¬ x121 = 0), (kd Θ l0 = 21) ∧ ∀ (v131 : Int) (e131 : v131 = gt (vv Θ l0) 4) (r131 : -1 ≤ v131), (kd Θ v131 = 23) ∧ (¬ fz Θ v131) ∧ (0 ≤ (0 : Int) ∧ 0 ≤ len (vv Θ v131)) ∧ ∀ (Θ135 : Th) (t135 : Θ135 = pm Θ v131 0), ∀ (v143 : Int) (e143 : v143 = gt (vv Θ135 l0) 3) (r143 : -1 ≤ v143), ∀ (v147 : Int) (e147 : v147 = gt (vv Θ135 l0) 4) (r147 : -1 ≤ v147), ∃ G150 : Nat, (g + G150 ≤ G) ∧ w2_X49_read ω (d - 1) G150 l6 l7 v143 v147 Θ135 (fun Θ150 => ∀ (L150 : Le Θ135 Θ150), ∀ (v155 : Int) (e155 : v155 = gt (vv Θ150 l0) 4) (r155 : -1 ≤ v155), ∃ G159 : Nat, (g + G150 + G159 ≤ G) ∧ w2_X7_mailsOf ω (d - 1) G159 l0 v155 l3 Θ150 (fun Θ159 => ∀ (L159 : Le Θ150 Θ159), W2_X7_matching_71 ω d G l0 l2 l3 l4 l5 l6 ((l7 + 1)) (g + G150 + G159) Θ159 Q))) ∧ (∀ (c124 : x121 = 0), W2_X7_matching_71 ω d G l0 l2 l3 l4 l5 l6 ((l7 + 1)) (g) Θ Q)))) : W2_X7_matching_71 ω d G l0 l2 l3 l4 l5 l6 l7 g Θ Q := sorry
set_option maxHeartbeats 4000000 in
theorem s2_X7_matching_226 {ω : AO} {d G : Nat} {l0 l2 l3 l4 l5 l6 l7 l8 : Int} {g : Nat} {Θ : Th} {Q : Th → Prop} (hB : (1 ≤ d) ∧ (kd Θ l7 = 3) ∧ (g ≤ G) ∧ ∀ (x230 : Int) (e230 : x230 = len (vv Θ l7)) (r230 : -2147483648 ≤ x230 ∧ x230 < 2147483648), (-2147483648 ≤ l8 ∧ l8 < 2147483648) ∧ (∀ (c233 : x230 ≤ l8), W2_X7_matching_177 ω d G l0 l2 l3 l4 ((l5 + 1)) (g) Θ Q) ∧ (∀ (c233 : l8 < x230), (0 ≤ l8 ∧ l8 < len (vv Θ l7)) ∧ (3 ≤ d) ∧ ∀ (x240 : Int) (e240 : x240 = gt (vv Θ l7) l8) (r240 : -1 ≤ x240), (x240 < 0 ∨ kd Θ x240 ∈ [2]) ∧ (kd Θ x240 = 2) ∧ (kd Θ l4 = 2) ∧ (-1000000000 ≤ (0 : Int) ∧ (0 : Int) ≤ 1000000000) ∧ (7 ≤ d) ∧ ∀ (x249 : Int) (e249 : x249 = if pAtB (vv Θ x240) (vv Θ l4) (0 : Int) then 1 else 0) (r249 : x249 = 0 ∨ x249 = 1), (∀ (c252 : x249 = 0), W2_X7_matching_177 ω d G l0 l2 l3 l4 ((l5 + 1)) (g) Θ Q) ∧ (∀ (c252 : ¬ x249 = 0), ∀ (x260 : Int) (e260 : x260 = gt (vv Θ l7) l8) (r260 : -1 ≤ x260), (x260 < 0 ∨ kd Θ x260 ∈ [2]) ∧ (kd Θ l2 = 2) ∧ (kd Θ x260 = 2) ∧ (0 ≤ (2 : Int) ∧ (2 : Int) ≤ 1000) ∧ (9 ≤ d) ∧ ∀ (x267 : Int) (e267 : x267 = if fitF (vv Θ l2) (vv Θ x260) (2 : Int) then 1 else 0) (r267 : x267 = 0 ∨ x267 = 1), (∀ (c270 : x267 = 0), W2_X7_matching_226 ω d G l0 l2 l3 l4 l5 l6 l7 ((l8 + 1)) (g) Θ Q) ∧ (∀ (c270 : ¬ x267 = 0), (kd Θ l0 = 21) ∧ ∀ (v275 : Int) (e275 : v275 = gt (vv Θ l0) 1) (r275 : -1 ≤ v275), (kd Θ v275 = 3) ∧ (0 ≤ l6 ∧ l6 < len (vv Θ v275)) ∧ ∀ (x280 : Int) (e280 : x280 = gt (vv Θ v275) l6) (r280 : -1 ≤ x280), (x280 < 0 ∨ kd Θ x280 ∈ [29]) ∧ (kd Θ x280 = 29) ∧ ∀ (v286 : Int) (e286 : v286 = gt (vv Θ x280) 0) (r286 : -2147483648 ≤ v286 ∧ v286 < 2147483648), (kd Θ l3 = 22) ∧ ∃ G289 : Nat, (g + G289 ≤ G) ∧ w2_X8_set ω (d - 1) G289 l3 v286 Θ (fun Θ289 => ∀ (L289 : Le Θ Θ289), W2_X7_matching_226 ω d G l0 l2 l3 l4 l5 l6 l7 ((l8 + 1)) (g + G289) Θ289 Q))))) : W2_X7_matching_226 ω d G l0 l2 l3 l4 l5 l6 l7 l8 g Θ Q := sorry
def W2_X7_stem_31 (ω : AO) (d G : Nat) (l0 l3 : Int) (g : Nat) (Θ : Th) (Q : Th → Prop) : Prop := Hid (SJ2 ω yX7_stem cX7_stem 4 none d G (fun Sz Θz => (eU Sz (q2U ω Θz Q))) 31 [(2, l0), vN, vN, (2, l3)] [] g Θ)
set_option maxHeartbeats 4000000 in
theorem s2_X7_stem {ω : AO} {d G : Nat} {l0 l1 l2 l3 : Int} {Θ : Th} {Q : Th → Prop} (hB : (0 + 1 ≤ G) ∧ ∀ (v1 : Int) (Θ1 : Th) (u1 : nt Θ ≤ v1 ∧ 0 ≤ v1) (b1 : Bl Θ) (t1 : Θ1 = nu Θ v1 (201, [], 0, 0)), (1 ≤ d) ∧ (3 ≤ d) ∧ (0 + 1 + 5 ≤ G) ∧ ∀ (Θ5 : Th) (t5 : Θ5 = uq Θ1 v1 (1, [], 16, 0)), ∀ (v8 : Int) (h8 : Str Θ5 v8 [115]), (¬ fz Θ5 v1) ∧ (bC (cp Θ5 v1) (len (vv Θ5 v1) + len (vv Θ5 v8)) ≤ 20000000) ∧ (11 ≤ d) ∧ (0 + 1 + 5 + (bK (bC (cp Θ5 v1) (len (vv Θ5 v1) + len (vv Θ5 v8))) (max (cx Θ5 v1) (wide (vv Θ5 v8))) - bK (cp Θ5 v1) (cx Θ5 v1)).toNat ≤ G) ∧ ∀ (Θ10 : Th) (t10 : Θ10 = uq Θ5 v1 (1, vv Θ5 v1 ++ vv Θ5 v8, bC (cp Θ5 v1) (len (vv Θ5 v1) + len (vv Θ5 v8)), max (cx Θ5 v1) (wide (vv Θ5 v8)))), ∃ G14 : Nat, (0 + 1 + 5 + (bK (bC (cp Θ5 v1) (len (vv Θ5 v1) + len (vv Θ5 v8))) (max (cx Θ5 v1) (wide (vv Θ5 v8))) - bK (cp Θ5 v1) (cx Θ5 v1)).toNat + G14 ≤ G) ∧ w2_J1_append_2 ω (d - 1) G14 v1 l1 Θ10 (fun x14 Θ14 => ∀ (L14 : Le Θ10 Θ14) (r14 : -1 ≤ x14), (kd Θ14 x14 = 1) ∧ (kd Θ14 l2 = 2) ∧ (¬ fz Θ14 x14) ∧ (bC (cp Θ14 x14) (len (vv Θ14 x14) + len (vv Θ14 l2)) ≤ 20000000) ∧ (0 + 1 + 5 + (bK (bC (cp Θ5 v1) (len (vv Θ5 v1) + len (vv Θ5 v8))) (max (cx Θ5 v1) (wide (vv Θ5 v8))) - bK (cp Θ5 v1) (cx Θ5 v1)).toNat + G14 + (bK (bC (cp Θ14 x14) (len (vv Θ14 x14) + len (vv Θ14 l2))) (max (cx Θ14 x14) (wide (vv Θ14 l2))) - bK (cp Θ14 x14) (cx Θ14 x14)).toNat ≤ G) ∧ ∀ (Θ18 : Th) (t18 : Θ18 = uq Θ14 x14 (1, vv Θ14 x14 ++ vv Θ14 l2, bC (cp Θ14 x14) (len (vv Θ14 x14) + len (vv Θ14 l2)), max (cx Θ14 x14) (wide (vv Θ14 l2)))), (len (vv Θ18 x14) ≤ 15000000) ∧ (8 ≤ d) ∧ (0 + 1 + 5 + (bK (bC (cp Θ5 v1) (len (vv Θ5 v1) + len (vv Θ5 v8))) (max (cx Θ5 v1) (wide (vv Θ5 v8))) - bK (cp Θ5 v1) (cx Θ5 v1)).toNat + G14 + (bK (bC (cp Θ14 x14) (len (vv Θ14 x14) + len (vv Θ14 l2))) (max (cx Θ14 x14) (wide (vv Θ14 l2))) - bK (cp Θ14 x14) (cx Θ14 x14)).toNat + (len (vv Θ18 x14) + 5).toNat ≤ G) ∧ ∀ (x21 : Int) (Θ21 : Th) (e21 : NewS Θ18 Θ21 x21 (vv Θ18 x14)) (n21 : nt Θ18 ≤ x21), (kd Θ21 l0 = 21) ∧ ∀ (v25 : Int) (e25 : v25 = gt (vv Θ21 l0) 4) (r25 : -1 ≤ v25), ∃ G28 : Nat, (0 + 1 + 5 + (bK (bC (cp Θ5 v1) (len (vv Θ5 v1) + len (vv Θ5 v8))) (max (cx Θ5 v1) (wide (vv Θ5 v8))) - bK (cp Θ5 v1) (cx Θ5 v1)).toNat + G14 + (bK (bC (cp Θ14 x14) (len (vv Θ14 x14) + len (vv Θ14 l2))) (max (cx Θ14 x14) (wide (vv Θ14 l2))) - bK (cp Θ14 x14) (cx Θ14 x14)).toNat + (len (vv Θ18 x14) + 5).toNat + G28 ≤ G) ∧ w2_X7_collect ω (d - 1) G28 l0 x21 v25 Θ21 (fun Θ28 => ∀ (L28 : Le Θ21 Θ28), W2_X7_stem_31 ω d G l0 l3 (0 + 1 + 5 + (bK (bC (cp Θ5 v1) (len (vv Θ5 v1) + len (vv Θ5 v8))) (max (cx Θ5 v1) (wide (vv Θ5 v8))) - bK (cp Θ5 v1) (cx Θ5 v1)).toNat + G14 + (bK (bC (cp Θ14 x14) (len (vv Θ14 x14) + len (vv Θ14 l2))) (max (cx Θ14 x14) (wide (vv Θ14 l2))) - bK (cp Θ14 x14) (cx Θ14 x14)).toNat + (len (vv Θ18 x14) + 5).toNat + G28) Θ28 Q))) : w2_X7_stem ω d G l0 l1 l2 l3 Θ Q := sorry
set_option maxHeartbeats 4000000 in
theorem s2_X7_stem_31 {ω : AO} {d G : Nat} {l0 l3 : Int} {g : Nat} {Θ : Th} {Q : Th → Prop} (hB : (kd Θ l0 = 21) ∧ ∀ (v33 : Int) (e33 : v33 = gt (vv Θ l0) 4) (r33 : -1 ≤ v33), (1 ≤ d) ∧ ∃ G37 : Nat, (g + G37 ≤ G) ∧ w2_X7_mailsOf ω (d - 1) G37 l0 v33 l3 Θ (fun Θ37 => ∀ (L37 : Le Θ Θ37), (g + G37 ≤ G) ∧ Q Θ37)) : W2_X7_stem_31 ω d G l0 l3 g Θ Q := sorry
def W2_X7_collect_7 (ω : AO) (d G : Nat) (l0 l1 l2 l3 : Int) (g : Nat) (Θ : Th) (Q : Th → Prop) : Prop := Hid (SJ2 ω yX7_collect cX7_collect 7 none d G (fun Sz Θz => (eU Sz (q2U ω Θz Q))) 7 [(2, l0), (2, l1), (2, l2), (0, l3), vN, vN, vN] [] g Θ)
def W2_X7_collect_95 (ω : AO) (d G : Nat) (l0 l1 l2 l3 : Int) (g : Nat) (Θ : Th) (Q : Th → Prop) : Prop := Hid (SJ2 ω yX7_collect cX7_collect 7 none d G (fun Sz Θz => (eU Sz (q2U ω Θz Q))) 95 [(2, l0), (2, l1), (2, l2), (0, l3), vN, vN, vN] [] g Θ)
set_option maxHeartbeats 4000000 in
theorem s2_X7_collect {ω : AO} {d G : Nat} {l0 l1 l2 : Int} {Θ : Th} {Q : Th → Prop} (hB : (kd Θ l2 = 23) ∧ (¬ fz Θ l2) ∧ (0 ≤ (0 : Int) ∧ 0 ≤ len (vv Θ l2)) ∧ ∀ (Θ2 : Th) (t2 : Θ2 = pm Θ l2 0), W2_X7_collect_7 ω d G l0 l1 l2 0 (0) Θ2 Q) : w2_X7_collect ω d G l0 l1 l2 Θ Q := sorry
set_option maxHeartbeats 4000000 in
theorem s2_X7_collect_7 {ω : AO} {d G : Nat} {l0 l1 l2 l3 : Int} {g : Nat} {Θ : Th} {Q : Th → Prop} (hB : (kd Θ l0 = 21) ∧ ∀ (v9 : Int) (e9 : v9 = gt (vv Θ l0) 0) (r9 : -1 ≤ v9), (1 ≤ d) ∧ (kd Θ v9 = 3) ∧ (g ≤ G) ∧ ∀ (x12 : Int) (e12 : x12 = len (vv Θ v9)) (r12 : -2147483648 ≤ x12 ∧ x12 < 2147483648), (-2147483648 ≤ l3 ∧ l3 < 2147483648) ∧ (∀ (c15 : x12 ≤ l3), W2_X7_collect_95 ω d G l0 l1 l2 0 (g) Θ Q) ∧ (∀ (c15 : l3 < x12), ∀ (v19 : Int) (e19 : v19 = gt (vv Θ l0) 0) (r19 : -1 ≤ v19), (kd Θ v19 = 3) ∧ (0 ≤ l3 ∧ l3 < len (vv Θ v19)) ∧ (3 ≤ d) ∧ ∀ (x23 : Int) (e23 : x23 = gt (vv Θ v19) l3) (r23 : -1 ≤ x23), (x23 < 0 ∨ kd Θ x23 ∈ [54]) ∧ (kd Θ x23 = 54) ∧ ∀ (v33 : Int) (e33 : v33 = gt (vv Θ x23) 2) (r33 : -1 ≤ v33), ∃ G37 : Nat, (g + G37 ≤ G) ∧ w2_X1_findIn ω (d - 1) G37 v33 l1 Θ (fun x37 Θ37 => ∀ (L37 : Le Θ Θ37) (r37 : -2147483648 ≤ x37 ∧ x37 < 2147483648), ∀ (v46 : Int) (e46 : v46 = gt (vv Θ37 x23) 2) (r46 : -1 ≤ v46), (kd Θ37 v46 = 3) ∧ (g + G37 ≤ G) ∧ ∀ (x49 : Int) (e49 : x49 = len (vv Θ37 v46)) (r49 : -2147483648 ≤ x49 ∧ x49 < 2147483648), (∀ (c52 : x49 ≤ x37), W2_X7_collect_7 ω d G l0 l1 l2 ((l3 + 1)) (g + G37) Θ37 Q) ∧ (∀ (c52 : x37 < x49), ∀ (v57 : Int) (e57 : v57 = gt (vv Θ37 x23) 2) (r57 : -1 ≤ v57), (kd Θ37 v57 = 3) ∧ (0 ≤ x37 ∧ x37 < len (vv Θ37 v57)) ∧ ∀ (x62 : Int) (e62 : x62 = gt (vv Θ37 v57) x37) (r62 : -1 ≤ x62), (x62 < 0 ∨ kd Θ37 x62 ∈ [2]) ∧ (kd Θ37 x62 = 2) ∧ (kd Θ37 l1 = 2) ∧ (2 ≤ d) ∧ ∀ (x69 : Int) (e69 : x69 = if vv Θ37 x62 = vv Θ37 l1 then 1 else 0) (r69 : x69 = 0 ∨ x69 = 1), (∀ (c72 : x69 = 0), W2_X7_collect_7 ω d G l0 l1 l2 ((l3 + 1)) (g + G37) Θ37 Q) ∧ (∀ (c72 : ¬ x69 = 0), ∀ (v80 : Int) (e80 : v80 = gt (vv Θ37 l0) 3) (r80 : -1 ≤ v80), ∃ G84 : Nat, (g + G37 + G84 ≤ G) ∧ w2_X49_read ω (d - 1) G84 x23 x37 v80 l2 Θ37 (fun Θ84 => ∀ (L84 : Le Θ37 Θ84), W2_X7_collect_7 ω d G l0 l1 l2 ((l3 + 1)) (g + G37 + G84) Θ84 Q)))))) : W2_X7_collect_7 ω d G l0 l1 l2 l3 g Θ Q := sorry
set_option maxHeartbeats 4000000 in
theorem s2_X7_collect_95 {ω : AO} {d G : Nat} {l0 l1 l2 l3 : Int} {g : Nat} {Θ : Th} {Q : Th → Prop} (hB : (kd Θ l0 = 21) ∧ ∀ (v97 : Int) (e97 : v97 = gt (vv Θ l0) 8) (r97 : -1 ≤ v97), (1 ≤ d) ∧ (kd Θ v97 = 3) ∧ (g ≤ G) ∧ ∀ (x100 : Int) (e100 : x100 = len (vv Θ v97)) (r100 : -2147483648 ≤ x100 ∧ x100 < 2147483648), (-2147483648 ≤ l3 ∧ l3 < 2147483648) ∧ (∀ (c103 : x100 ≤ l3), Q Θ) ∧ (∀ (c103 : l3 < x100), ∀ (v107 : Int) (e107 : v107 = gt (vv Θ l0) 8) (r107 : -1 ≤ v107), (kd Θ v107 = 3) ∧ (0 ≤ l3 ∧ l3 < len (vv Θ v107)) ∧ (3 ≤ d) ∧ ∀ (x111 : Int) (e111 : x111 = gt (vv Θ v107) l3) (r111 : -1 ≤ x111), (x111 < 0 ∨ kd Θ x111 ∈ [7]) ∧ (kd Θ x111 = 7) ∧ ∀ (x117 : Int) (e117 : x117 = gt (vv Θ x111) 0) (r117 : -2147483648 ≤ x117 ∧ x117 < 2147483648), ∃ G125 : Nat, (g + G125 ≤ G) ∧ w2_X7_wordsOf ω (d - 1) G125 l0 x117 Θ (fun x125 Θ125 => ∀ (L125 : Le Θ Θ125) (r125 : -1 ≤ x125), (kd Θ125 x125 = 53) ∧ ∀ (v132 : Int) (e132 : v132 = gt (vv Θ125 x125) 0) (r132 : -1 ≤ v132), ∃ G136 : Nat, (g + G125 + G136 ≤ G) ∧ w2_X1_findIn ω (d - 1) G136 v132 l1 Θ125 (fun x136 Θ136 => ∀ (L136 : Le Θ125 Θ136) (r136 : -2147483648 ≤ x136 ∧ x136 < 2147483648), ∀ (v145 : Int) (e145 : v145 = gt (vv Θ136 x125) 0) (r145 : -1 ≤ v145), (kd Θ136 v145 = 3) ∧ (g + G125 + G136 ≤ G) ∧ ∀ (x148 : Int) (e148 : x148 = len (vv Θ136 v145)) (r148 : -2147483648 ≤ x148 ∧ x148 < 2147483648), (∀ (c151 : x148 ≤ x136), W2_X7_collect_95 ω d G l0 l1 l2 ((l3 + 1)) (g + G125 + G136) Θ136 Q) ∧ (∀ (c151 : x136 < x148), ∀ (v156 : Int) (e156 : v156 = gt (vv Θ136 x125) 0) (r156 : -1 ≤ v156), (kd Θ136 v156 = 3) ∧ (0 ≤ x136 ∧ x136 < len (vv Θ136 v156)) ∧ ∀ (x161 : Int) (e161 : x161 = gt (vv Θ136 v156) x136) (r161 : -1 ≤ x161), (x161 < 0 ∨ kd Θ136 x161 ∈ [2]) ∧ (kd Θ136 x161 = 2) ∧ (kd Θ136 l1 = 2) ∧ (2 ≤ d) ∧ ∀ (x168 : Int) (e168 : x168 = if vv Θ136 x161 = vv Θ136 l1 then 1 else 0) (r168 : x168 = 0 ∨ x168 = 1), (∀ (c171 : x168 = 0), W2_X7_collect_95 ω d G l0 l1 l2 ((l3 + 1)) (g + G125 + G136) Θ136 Q) ∧ (∀ (c171 : ¬ x168 = 0), ∀ (v177 : Int) (e177 : v177 = gt (vv Θ136 x125) 1) (r177 : -1 ≤ v177), (kd Θ136 v177 = 3) ∧ (0 ≤ x136 ∧ x136 < len (vv Θ136 v177)) ∧ ∀ (x182 : Int) (e182 : x182 = gt (vv Θ136 v177) x136) (r182 : -1 ≤ x182), (x182 < 0 ∨ kd Θ136 x182 ∈ [23]) ∧ (kd Θ136 l2 = 23) ∧ ∃ G195 : Nat, (g + G125 + G136 + G195 ≤ G) ∧ w2_X9_addAll ω (d - 1) G195 l2 x182 (x117 * 16384) Θ136 (fun Θ195 => ∀ (L195 : Le Θ136 Θ195), W2_X7_collect_95 ω d G l0 l1 l2 ((l3 + 1)) (g + G125 + G136 + G195) Θ195 Q))))))) : W2_X7_collect_95 ω d G l0 l1 l2 l3 g Θ Q := sorry
def W2_X7_phrase_48 (ω : AO) (d G : Nat) (l0 l1 l2 l3 l4 l5 : Int) (g : Nat) (Θ : Th) (Q : Th → Prop) : Prop := Hid (SJ2 ω yX7_phrase cX7_phrase 8 none d G (fun Sz Θz => (eU Sz (q2U ω Θz Q))) 48 [(2, l0), (0, l1), (2, l2), (2, l3), (2, l4), (2, l5), vN, vN] [] g Θ)
def W2_X7_phrase_51 (ω : AO) (d G : Nat) (l0 l1 l2 l3 l4 l5 l6 : Int) (g : Nat) (Θ : Th) (Q : Th → Prop) : Prop := Hid (SJ2 ω yX7_phrase cX7_phrase 8 none d G (fun Sz Θz => (eU Sz (q2U ω Θz Q))) 51 [(2, l0), (0, l1), (2, l2), (2, l3), (2, l4), (2, l5), (0, l6), vN] [] g Θ)
def W2_X7_phrase_206 (ω : AO) (d G : Nat) (l0 l3 l4 : Int) (g : Nat) (Θ : Th) (Q : Th → Prop) : Prop := Hid (SJ2 ω yX7_phrase cX7_phrase 8 none d G (fun Sz Θz => (eU Sz (q2U ω Θz Q))) 206 [(2, l0), vN, vN, (2, l3), (2, l4), vN, vN, vN] [] g Θ)
def W2_X7_phrase_107 (ω : AO) (d G : Nat) (l0 l1 l2 l3 l4 l5 l6 : Int) (g : Nat) (Θ : Th) (Q : Th → Prop) : Prop := Hid (SJ2 ω yX7_phrase cX7_phrase 8 none d G (fun Sz Θz => (eU Sz (q2U ω Θz Q))) 107 [(2, l0), (0, l1), (2, l2), (2, l3), (2, l4), (2, l5), (0, l6), vN] [] g Θ)
def W2_X7_phrase_116 (ω : AO) (d G : Nat) (l0 l1 l2 l3 l4 l5 l6 l7 : Int) (g : Nat) (Θ : Th) (Q : Th → Prop) : Prop := Hid (SJ2 ω yX7_phrase cX7_phrase 8 none d G (fun Sz Θz => (eU Sz (q2U ω Θz Q))) 116 [(2, l0), (0, l1), (2, l2), (2, l3), (2, l4), (2, l5), (0, l6), (0, l7)] [] g Θ)
set_option maxHeartbeats 4000000 in
theorem s2_X7_phrase {ω : AO} {d G : Nat} {l0 l1 l2 l3 : Int} {Θ : Th} {Q : Th → Prop} (hB : (kd Θ l0 = 21) ∧ ∀ (v1 : Int) (e1 : v1 = gt (vv Θ l0) 5) (r1 : -1 ≤ v1), ∀ (v7 : Int) (e7 : v7 = gt (vv Θ l0) 6) (r7 : -1 ≤ v7), (0 + 1 ≤ G) ∧ ∀ (v13 : Int) (Θ13 : Th) (u13 : nt Θ ≤ v13 ∧ 0 ≤ v13) (b13 : Bl Θ) (t13 : Θ13 = nu Θ v13 (201, [], 0, 0)), (1 ≤ d) ∧ (3 ≤ d) ∧ (0 + 1 + 5 ≤ G) ∧ ∀ (Θ17 : Th) (t17 : Θ17 = uq Θ13 v13 (1, [], 16, 0)), ∀ (v20 : Int) (h20 : Str Θ17 v20 [112]), (¬ fz Θ17 v13) ∧ (bC (cp Θ17 v13) (len (vv Θ17 v13) + len (vv Θ17 v20)) ≤ 20000000) ∧ (11 ≤ d) ∧ (0 + 1 + 5 + (bK (bC (cp Θ17 v13) (len (vv Θ17 v13) + len (vv Θ17 v20))) (max (cx Θ17 v13) (wide (vv Θ17 v20))) - bK (cp Θ17 v13) (cx Θ17 v13)).toNat ≤ G) ∧ ∀ (Θ22 : Th) (t22 : Θ22 = uq Θ17 v13 (1, vv Θ17 v13 ++ vv Θ17 v20, bC (cp Θ17 v13) (len (vv Θ17 v13) + len (vv Θ17 v20)), max (cx Θ17 v13) (wide (vv Θ17 v20)))), ∃ G26 : Nat, (0 + 1 + 5 + (bK (bC (cp Θ17 v13) (len (vv Θ17 v13) + len (vv Θ17 v20))) (max (cx Θ17 v13) (wide (vv Θ17 v20))) - bK (cp Θ17 v13) (cx Θ17 v13)).toNat + G26 ≤ G) ∧ w2_J1_append_2 ω (d - 1) G26 v13 l1 Θ22 (fun x26 Θ26 => ∀ (L26 : Le Θ22 Θ26) (r26 : -1 ≤ x26), (kd Θ26 l2 = 3) ∧ (0 ≤ (0 : Int) ∧ (0 : Int) < len (vv Θ26 l2)) ∧ (0 + 1 + 5 + (bK (bC (cp Θ17 v13) (len (vv Θ17 v13) + len (vv Θ17 v20))) (max (cx Θ17 v13) (wide (vv Θ17 v20))) - bK (cp Θ17 v13) (cx Θ17 v13)).toNat + G26 ≤ G) ∧ ∀ (x31 : Int) (e31 : x31 = gt (vv Θ26 l2) (0 : Int)) (r31 : -1 ≤ x31), (x31 < 0 ∨ kd Θ26 x31 ∈ [2]) ∧ (kd Θ26 x26 = 1) ∧ (kd Θ26 x31 = 2) ∧ (¬ fz Θ26 x26) ∧ (bC (cp Θ26 x26) (len (vv Θ26 x26) + len (vv Θ26 x31)) ≤ 20000000) ∧ (0 + 1 + 5 + (bK (bC (cp Θ17 v13) (len (vv Θ17 v13) + len (vv Θ17 v20))) (max (cx Θ17 v13) (wide (vv Θ17 v20))) - bK (cp Θ17 v13) (cx Θ17 v13)).toNat + G26 + (bK (bC (cp Θ26 x26) (len (vv Θ26 x26) + len (vv Θ26 x31))) (max (cx Θ26 x26) (wide (vv Θ26 x31))) - bK (cp Θ26 x26) (cx Θ26 x26)).toNat ≤ G) ∧ ∀ (Θ37 : Th) (t37 : Θ37 = uq Θ26 x26 (1, vv Θ26 x26 ++ vv Θ26 x31, bC (cp Θ26 x26) (len (vv Θ26 x26) + len (vv Θ26 x31)), max (cx Θ26 x26) (wide (vv Θ26 x31)))), (len (vv Θ37 x26) ≤ 15000000) ∧ (8 ≤ d) ∧ (0 + 1 + 5 + (bK (bC (cp Θ17 v13) (len (vv Θ17 v13) + len (vv Θ17 v20))) (max (cx Θ17 v13) (wide (vv Θ17 v20))) - bK (cp Θ17 v13) (cx Θ17 v13)).toNat + G26 + (bK (bC (cp Θ26 x26) (len (vv Θ26 x26) + len (vv Θ26 x31))) (max (cx Θ26 x26) (wide (vv Θ26 x31))) - bK (cp Θ26 x26) (cx Θ26 x26)).toNat + (len (vv Θ37 x26) + 5).toNat ≤ G) ∧ ∀ (x40 : Int) (Θ40 : Th) (e40 : NewS Θ37 Θ40 x40 (vv Θ37 x26)) (n40 : nt Θ37 ≤ x40), ∃ G45 : Nat, (0 + 1 + 5 + (bK (bC (cp Θ17 v13) (len (vv Θ17 v13) + len (vv Θ17 v20))) (max (cx Θ17 v13) (wide (vv Θ17 v20))) - bK (cp Θ17 v13) (cx Θ17 v13)).toNat + G26 + (bK (bC (cp Θ26 x26) (len (vv Θ26 x26) + len (vv Θ26 x31))) (max (cx Θ26 x26) (wide (vv Θ26 x31))) - bK (cp Θ26 x26) (cx Θ26 x26)).toNat + (len (vv Θ37 x26) + 5).toNat + G45 ≤ G) ∧ w2_X7_collect ω (d - 1) G45 l0 x40 v1 Θ40 (fun Θ45 => ∀ (L45 : Le Θ40 Θ45), W2_X7_phrase_48 ω d G l0 l1 l2 l3 v1 v7 (0 + 1 + 5 + (bK (bC (cp Θ17 v13) (len (vv Θ17 v13) + len (vv Θ17 v20))) (max (cx Θ17 v13) (wide (vv Θ17 v20))) - bK (cp Θ17 v13) (cx Θ17 v13)).toNat + G26 + (bK (bC (cp Θ26 x26) (len (vv Θ26 x26) + len (vv Θ26 x31))) (max (cx Θ26 x26) (wide (vv Θ26 x31))) - bK (cp Θ26 x26) (cx Θ26 x26)).toNat + (len (vv Θ37 x26) + 5).toNat + G45) Θ45 Q))) : w2_X7_phrase ω d G l0 l1 l2 l3 Θ Q := sorry
set_option maxHeartbeats 4000000 in
theorem s2_X7_phrase_48 {ω : AO} {d G : Nat} {l0 l1 l2 l3 l4 l5 : Int} {g : Nat} {Θ : Th} {Q : Th → Prop} (hB : W2_X7_phrase_51 ω d G l0 l1 l2 l3 l4 l5 1 (g) Θ Q) : W2_X7_phrase_48 ω d G l0 l1 l2 l3 l4 l5 g Θ Q := sorry
set_option maxHeartbeats 4000000 in
theorem s2_X7_phrase_51 {ω : AO} {d G : Nat} {l0 l1 l2 l3 l4 l5 l6 : Int} {g : Nat} {Θ : Th} {Q : Th → Prop} (hB : (1 ≤ d) ∧ (kd Θ l2 = 3) ∧ (g ≤ G) ∧ ∀ (x54 : Int) (e54 : x54 = len (vv Θ l2)) (r54 : -2147483648 ≤ x54 ∧ x54 < 2147483648), (-2147483648 ≤ l6 ∧ l6 < 2147483648) ∧ (∀ (c57 : x54 ≤ l6), W2_X7_phrase_206 ω d G l0 l3 l4 (g) Θ Q) ∧ (∀ (c57 : l6 < x54), (kd Θ l4 = 23) ∧ ∀ (v62 : Int) (e62 : v62 = len (vv Θ l4)) (r62 : -2147483648 ≤ v62 ∧ v62 < 2147483648), (∀ (c65 : v62 ≤ 0), W2_X7_phrase_206 ω d G l0 l3 l4 (g) Θ Q) ∧ (∀ (c65 : 0 < v62), (g + 1 ≤ G) ∧ ∀ (v69 : Int) (Θ69 : Th) (u69 : nt Θ ≤ v69 ∧ 0 ≤ v69) (b69 : Bl Θ) (t69 : Θ69 = nu Θ v69 (201, [], 0, 0)), (3 ≤ d) ∧ (g + 1 + 5 ≤ G) ∧ ∀ (Θ73 : Th) (t73 : Θ73 = uq Θ69 v69 (1, [], 16, 0)), ∀ (v76 : Int) (h76 : Str Θ73 v76 [112]), (¬ fz Θ73 v69) ∧ (bC (cp Θ73 v69) (len (vv Θ73 v69) + len (vv Θ73 v76)) ≤ 20000000) ∧ (11 ≤ d) ∧ (g + 1 + 5 + (bK (bC (cp Θ73 v69) (len (vv Θ73 v69) + len (vv Θ73 v76))) (max (cx Θ73 v69) (wide (vv Θ73 v76))) - bK (cp Θ73 v69) (cx Θ73 v69)).toNat ≤ G) ∧ ∀ (Θ78 : Th) (t78 : Θ78 = uq Θ73 v69 (1, vv Θ73 v69 ++ vv Θ73 v76, bC (cp Θ73 v69) (len (vv Θ73 v69) + len (vv Θ73 v76)), max (cx Θ73 v69) (wide (vv Θ73 v76)))), ∃ G82 : Nat, (g + 1 + 5 + (bK (bC (cp Θ73 v69) (len (vv Θ73 v69) + len (vv Θ73 v76))) (max (cx Θ73 v69) (wide (vv Θ73 v76))) - bK (cp Θ73 v69) (cx Θ73 v69)).toNat + G82 ≤ G) ∧ w2_J1_append_2 ω (d - 1) G82 v69 l1 Θ78 (fun x82 Θ82 => ∀ (L82 : Le Θ78 Θ82) (r82 : -1 ≤ x82), (0 ≤ l6 ∧ l6 < len (vv Θ82 l2)) ∧ (g + 1 + 5 + (bK (bC (cp Θ73 v69) (len (vv Θ73 v69) + len (vv Θ73 v76))) (max (cx Θ73 v69) (wide (vv Θ73 v76))) - bK (cp Θ73 v69) (cx Θ73 v69)).toNat + G82 ≤ G) ∧ ∀ (x88 : Int) (e88 : x88 = gt (vv Θ82 l2) l6) (r88 : -1 ≤ x88), (x88 < 0 ∨ kd Θ82 x88 ∈ [2]) ∧ (kd Θ82 x82 = 1) ∧ (kd Θ82 x88 = 2) ∧ (¬ fz Θ82 x82) ∧ (bC (cp Θ82 x82) (len (vv Θ82 x82) + len (vv Θ82 x88)) ≤ 20000000) ∧ (g + 1 + 5 + (bK (bC (cp Θ73 v69) (len (vv Θ73 v69) + len (vv Θ73 v76))) (max (cx Θ73 v69) (wide (vv Θ73 v76))) - bK (cp Θ73 v69) (cx Θ73 v69)).toNat + G82 + (bK (bC (cp Θ82 x82) (len (vv Θ82 x82) + len (vv Θ82 x88))) (max (cx Θ82 x82) (wide (vv Θ82 x88))) - bK (cp Θ82 x82) (cx Θ82 x82)).toNat ≤ G) ∧ ∀ (Θ94 : Th) (t94 : Θ94 = uq Θ82 x82 (1, vv Θ82 x82 ++ vv Θ82 x88, bC (cp Θ82 x82) (len (vv Θ82 x82) + len (vv Θ82 x88)), max (cx Θ82 x82) (wide (vv Θ82 x88)))), (len (vv Θ94 x82) ≤ 15000000) ∧ (8 ≤ d) ∧ (g + 1 + 5 + (bK (bC (cp Θ73 v69) (len (vv Θ73 v69) + len (vv Θ73 v76))) (max (cx Θ73 v69) (wide (vv Θ73 v76))) - bK (cp Θ73 v69) (cx Θ73 v69)).toNat + G82 + (bK (bC (cp Θ82 x82) (len (vv Θ82 x82) + len (vv Θ82 x88))) (max (cx Θ82 x82) (wide (vv Θ82 x88))) - bK (cp Θ82 x82) (cx Θ82 x82)).toNat + (len (vv Θ94 x82) + 5).toNat ≤ G) ∧ ∀ (x97 : Int) (Θ97 : Th) (e97 : NewS Θ94 Θ97 x97 (vv Θ94 x82)) (n97 : nt Θ94 ≤ x97), (kd Θ97 l0 = 21) ∧ ∀ (v101 : Int) (e101 : v101 = gt (vv Θ97 l0) 4) (r101 : -1 ≤ v101), ∃ G104 : Nat, (g + 1 + 5 + (bK (bC (cp Θ73 v69) (len (vv Θ73 v69) + len (vv Θ73 v76))) (max (cx Θ73 v69) (wide (vv Θ73 v76))) - bK (cp Θ73 v69) (cx Θ73 v69)).toNat + G82 + (bK (bC (cp Θ82 x82) (len (vv Θ82 x82) + len (vv Θ82 x88))) (max (cx Θ82 x82) (wide (vv Θ82 x88))) - bK (cp Θ82 x82) (cx Θ82 x82)).toNat + (len (vv Θ94 x82) + 5).toNat + G104 ≤ G) ∧ w2_X7_collect ω (d - 1) G104 l0 x97 v101 Θ97 (fun Θ104 => ∀ (L104 : Le Θ97 Θ104), W2_X7_phrase_107 ω d G l0 l1 l2 l3 l4 l5 l6 (g + 1 + 5 + (bK (bC (cp Θ73 v69) (len (vv Θ73 v69) + len (vv Θ73 v76))) (max (cx Θ73 v69) (wide (vv Θ73 v76))) - bK (cp Θ73 v69) (cx Θ73 v69)).toNat + G82 + (bK (bC (cp Θ82 x82) (len (vv Θ82 x82) + len (vv Θ82 x88))) (max (cx Θ82 x82) (wide (vv Θ82 x88))) - bK (cp Θ82 x82) (cx Θ82 x82)).toNat + (len (vv Θ94 x82) + 5).toNat + G104) Θ104 Q))))) : W2_X7_phrase_51 ω d G l0 l1 l2 l3 l4 l5 l6 g Θ Q := sorry
set_option maxHeartbeats 4000000 in
theorem s2_X7_phrase_206 {ω : AO} {d G : Nat} {l0 l3 l4 : Int} {g : Nat} {Θ : Th} {Q : Th → Prop} (hB : (1 ≤ d) ∧ (kd Θ l0 = 21) ∧ ∃ G210 : Nat, (g + G210 ≤ G) ∧ w2_X7_mailsOf ω (d - 1) G210 l0 l4 l3 Θ (fun Θ210 => ∀ (L210 : Le Θ Θ210), (g + G210 ≤ G) ∧ Q Θ210)) : W2_X7_phrase_206 ω d G l0 l3 l4 g Θ Q := sorry
set_option maxHeartbeats 4000000 in
theorem s2_X7_phrase_107 {ω : AO} {d G : Nat} {l0 l1 l2 l3 l4 l5 l6 : Int} {g : Nat} {Θ : Th} {Q : Th → Prop} (hB : (kd Θ l5 = 23) ∧ (¬ fz Θ l5) ∧ (0 ≤ (0 : Int) ∧ 0 ≤ len (vv Θ l5)) ∧ ∀ (Θ110 : Th) (t110 : Θ110 = pm Θ l5 0), W2_X7_phrase_116 ω d G l0 l1 l2 l3 l4 l5 l6 0 (g) Θ110 Q) : W2_X7_phrase_107 ω d G l0 l1 l2 l3 l4 l5 l6 g Θ Q := sorry
set_option maxHeartbeats 4000000 in
theorem s2_X7_phrase_116 {ω : AO} {d G : Nat} {l0 l1 l2 l3 l4 l5 l6 l7 : Int} {g : Nat} {Θ : Th} {Q : Th → Prop} (hB : (kd Θ l0 = 21) ∧ ∀ (v119 : Int) (e119 : v119 = gt (vv Θ l0) 4) (r119 : -1 ≤ v119), (kd Θ v119 = 23) ∧ ∀ (v122 : Int) (e122 : v122 = len (vv Θ v119)) (r122 : -2147483648 ≤ v122 ∧ v122 < 2147483648), (-2147483648 ≤ l7 ∧ l7 < 2147483648) ∧ (∀ (c125 : v122 ≤ l7), W2_X7_phrase_51 ω d G l0 l1 l2 l3 l5 l4 ((l6 + 1)) (g) Θ Q) ∧ (∀ (c125 : l7 < v122), ∀ (v129 : Int) (e129 : v129 = gt (vv Θ l0) 4) (r129 : -1 ≤ v129), (kd Θ v129 = 23) ∧ (0 ≤ l7 ∧ l7 < len (vv Θ v129)) ∧ ∀ (v137 : Int) (e137 : v137 = gt (vv Θ v129) l7) (r137 : -9223372036854775808 ≤ v137 ∧ v137 < 9223372036854775808), (∀ (c144 : (Int.tmod v137 16384) ≤ 0), W2_X7_phrase_116 ω d G l0 l1 l2 l3 l4 l5 l6 ((l7 + 1)) (g) Θ Q) ∧ (∀ (c144 : 0 < (Int.tmod v137 16384)), ∀ (v150 : Int) (e150 : v150 = gt (vv Θ l0) 4) (r150 : -1 ≤ v150), (kd Θ v150 = 23) ∧ (0 ≤ l7 ∧ l7 < len (vv Θ v150)) ∧ ∀ (v158 : Int) (e158 : v158 = gt (vv Θ v150) l7) (r158 : -9223372036854775808 ≤ v158 ∧ v158 < 9223372036854775808), (1 ≤ d) ∧ (kd Θ l4 = 23) ∧ ∃ G161 : Nat, (g + G161 ≤ G) ∧ w2_X9_has ω (d - 1) G161 l4 (v158 - 1) Θ (fun x161 Θ161 => ∀ (L161 : Le Θ Θ161) (r161 : x161 = 0 ∨ x161 = 1), (∀ (c164 : x161 = 0), W2_X7_phrase_116 ω d G l0 l1 l2 l3 l4 l5 l6 ((l7 + 1)) (g + G161) Θ161 Q) ∧ (∀ (c164 : ¬ x161 = 0), ∀ (v170 : Int) (e170 : v170 = gt (vv Θ161 l0) 4) (r170 : -1 ≤ v170), (kd Θ161 v170 = 23) ∧ (0 ≤ l7 ∧ l7 < len (vv Θ161 v170)) ∧ ∀ (v178 : Int) (e178 : v178 = gt (vv Θ161 v170) l7) (r178 : -9223372036854775808 ≤ v178 ∧ v178 < 9223372036854775808), (kd Θ161 l5 = 23) ∧ (¬ fz Θ161 l5) ∧ (rwC (cp Θ161 l5) (len (vv Θ161 l5)) ≤ 60000000) ∧ (3 ≤ d) ∧ (g + G161 + (rwK (cp Θ161 l5) (len (vv Θ161 l5))).toNat ≤ G) ∧ ∀ (Θ179 : Th) (t179 : Θ179 = uq Θ161 l5 (23, vv Θ161 l5 ++ [v178], rwC (cp Θ161 l5) (len (vv Θ161 l5)), cx Θ161 l5)), W2_X7_phrase_116 ω d G l0 l1 l2 l3 l4 l5 l6 ((l7 + 1)) (g + G161 + (rwK (cp Θ161 l5) (len (vv Θ161 l5))).toNat) Θ179 Q))))) : W2_X7_phrase_116 ω d G l0 l1 l2 l3 l4 l5 l6 l7 g Θ Q := sorry
/-! 78.ab.lean.txt -/
/-! the index: which word is the first -/
set_option maxRecDepth 100000
def rdx (n : Nat) (r : Nat → SgV) : List SgV := (List.range n).map r
theorem rdx_s {n : Nat} {r : Nat → SgV} : rdx (n + 1) r = rdx n r ++ [r n] := sorry
theorem rdx_len {n : Nat} {r : Nat → SgV} : (rdx n r).length = n := by unfold rdx; rw [List.length_map, List.length_range]
theorem rdx_mem {n : Nat} {r : Nat → SgV} {x : SgV} : x ∈ rdx n r ↔ ∃ i, i < n ∧ r i = x := sorry
theorem rdx_eq {n : Nat} {r r' : Nat → SgV} (h : ∀ i, i < n → r i = r' i) : rdx n r = rdx n r' := sorry
theorem rdx_tl {n : Nat} {r : Nat → SgV} {w : List Int} : tlR w (rdx n r) = rdx n (fun i => tlB w (r i)) := by
  unfold tlR rdx
  rw [List.map_map]; rfl
/-- one of the rows has the least next word, or all are through -/
def Lz (n : Nat) (r : Nat → SgV) (b : Int) : Prop := (b = -1 ∧ ∀ i, i < n → r i = []) ∨ (0 ≤ b ∧ b < (n : Int) ∧ ∃ p s, r b.toNat = p :: s ∧ IsLs (rdx n r) p.1)
theorem Lz.z {r : Nat → SgV} : Lz 0 r (-1) := Or.inl ⟨rfl, fun i hi => absurd hi (Nat.not_lt_zero i)⟩
theorem Lz.skip {n : Nat} {r : Nat → SgV} {b : Int} (h : Lz n r b) (hn : ∀ q t, r n = q :: t → 0 ≤ b ∧ ∀ p s, r b.toNat = p :: s → cmpL p.1 q.1 ≤ 0) : Lz (n + 1) r b := sorry
theorem Lz.new {n : Nat} {r : Nat → SgV} {b : Int} {q : List Int × List Int} {t : SgV} (h : Lz n r b) (hr : r n = q :: t) (hn : b < 0 ∨ ∀ p s, r b.toNat = p :: s → cmpL q.1 p.1 < 0) : Lz (n + 1) r (n : Int) := sorry
theorem Lz.eq {n : Nat} {r : Nat → SgV} {b : Int} (h : Lz n r b) : (b = -1 ∧ lsW (rdx n r) = none) ∨ (0 ≤ b ∧ b < (n : Int) ∧ ∃ p s, r b.toNat = p :: s ∧ lsW (rdx n r) = some p.1) := sorry
/-- the words of a row -/
def rWd (r : SgV) (ws : List (List Int)) (k : Int) : Prop := r.map (·.1) = ws.drop k.toNat
theorem rWd.nil {r : SgV} {ws : List (List Int)} {k : Int} (h : rWd r ws k) (hk : (ws.length : Int) ≤ k) : r = [] := sorry
theorem rWd.cons {r : SgV} {ws : List (List Int)} {k : Int} (h : rWd r ws k) (hk : 0 ≤ k ∧ k < (ws.length : Int)) : ∃ p s, r = p :: s ∧ ws[k.toNat]? = some p.1 ∧ rWd s ws (k + 1) := sorry
theorem rWd.in {r : SgV} {ws : List (List Int)} {k : Int} {p : List Int × List Int} {s : SgV} (h : rWd r ws k) (e : r = p :: s) : k < (ws.length : Int) := sorry
/-- a number's object -/
def IntO (Θ : Th) (r k : Int) : Prop := Fx Θ r (7, [k], 0, 0)
theorem IntO.le {Θ Θ1 : Th} {r k : Int} (h : IntO Θ r k) (L : Le Θ Θ1) : IntO Θ1 r k := Fx.le h L
/-- a document: a content with its words -/
def DcO (Θ : Th) (r : Int) (w : Wv) : Prop := ∃ CF, Fx Θ r (32, CF, 0, 0) ∧ WdO Θ (gt CF 8) w
theorem DcO.le {Θ Θ1 : Th} {r : Int} {w : Wv} (h : DcO Θ r w) (L : Le Θ Θ1) : DcO Θ1 r w := sorry
theorem CtO.dc {Θ : Th} {r : Int} {l : List Int} (h : CtO Θ r l) : DcO Θ r (woF (VSo (ctFd l))) := sorry
theorem all2_get {α : Type} {P : Int → α → Prop} {rs : List Int} {xs : List α} {k : Int} {x : α} (h : all2 P rs xs) (k0 : 0 ≤ k) (hx : xs[k.toNat]? = some x) : P (gt rs k) x := sorry
section IXA
variable {ω : AO} {d G g : Nat} {Θ Θ1 : Th} {a pa k c2 e2 cb eb c0 e0 fr : Int} {F P rsC rb bd rs0 : List Int} {WV : Int → Wv} {r : Nat → SgV} {n : Nat}
theorem u_X7_wordsOf {Q : Int → Th → Prop} {w : Wv} (hd : 3 ≤ d) (h : xo Θ a = (21, F, 0, 0)) (hc : xo Θ (gt F 2) = (3, rsC, c2, e2)) (hk : 0 ≤ k ∧ k < len rsC) (hD : DcO Θ (gt rsC k) w) (hQ : ∀ x, WdO Θ x w → Q x Θ) : w2_X7_wordsOf ω d G a k Θ Q := sorry
/-- what is known of the documents of a row -/
def DocO (Θ : Th) (rsC bd : List Int) (WV : Int → Wv) : Prop := ∀ k, k ∈ bd → 0 ≤ k ∧ k < len rsC ∧ DcO Θ (gt rsC k) (WV k) ∧ (WV k).1.length ≤ 1000000
theorem u_X7_firstOf {Q : Int → Th → Prop} (hd : 7 ≤ d) (h : xo Θ a = (21, F, 0, 0)) (hb : xo Θ (gt F 8) = (3, rb, cb, eb)) (hbd : all2 (IntO Θ) rb bd) (hc : xo Θ (gt F 2) = (3, rsC, c2, e2)) (hW : DocO Θ rsC bd WV) (hP : xo Θ pa = (104, P, 0, 0)) (hPl : len bd ≤ len P) (hP0 : ∀ i : Nat, i < bd.length → 0 ≤ gt P (i : Int)) (hr : ∀ i : Nat, i < bd.length → rWd (r i) (WV (gt bd (i : Int))).1 (gt P (i : Int)))
    (hQ : ∀ b, Lz bd.length r b → Q b Θ) : w2_X7_firstOf ω d G a pa Θ Q := sorry
end IXA

/-! 78.ac.lean.txt -/
/-! the index: the entries of documents; one word's hits come together -/
set_option maxRecDepth 100000
/-- the words of a document, with their hits in the whole -/
def enD (w : Wv) (d : Int) : SgV := (w.1.zip w.2).map (fun p => (p.1, p.2.map (fun x => x + d * 16384)))
def wvOk (w : Wv) : Prop := w.1.length = w.2.length ∧ w.1.Pairwise (fun x y => cmpL x y < 0) ∧ (∀ t, t ∈ w.1 → 0 < len t) ∧ (∀ h, h ∈ w.2 → h ≠ [] ∧ h.Pairwise (fun x y => x < y) ∧ ∀ x, x ∈ h → 0 ≤ x ∧ x < 16384) ∧ w.1.length ≤ 1000000
theorem enD_wd {w : Wv} {d : Int} (h : w.1.length = w.2.length) : (enD w d).map (·.1) = w.1 := sorry
theorem enD_get {w : Wv} {d : Int} {i : Nat} {t h : List Int} (h1 : w.1[i]? = some t) (h2 : w.2[i]? = some h) : (enD w d)[i]? = some (t, h.map (fun x => x + d * 16384)) := sorry
theorem enD_mem {w : Wv} {d : Int} {p : List Int × List Int} (h : p ∈ enD w d) : ∃ t hs, t ∈ w.1 ∧ hs ∈ w.2 ∧ p = (t, hs.map (fun x => x + d * 16384)) := sorry
theorem enD_srt {w : Wv} {d : Int} (h : wvOk w) : SrW (enD w d) := sorry
/-- hits of one document -/
def hIn (d : Int) (l : List Int) : Prop := l.Pairwise (fun x y => x < y) ∧ ∀ x, x ∈ l → d * 16384 ≤ x ∧ x < (d + 1) * 16384
theorem enD_hits {w : Wv} {d : Int} (h : wvOk w) : ∀ p, p ∈ enD w d → hIn d p.2 ∧ p.2 ≠ [] ∧ 0 < len p.1 := sorry
def hwB (w : List Int) : SgV → Bool
  | [] => false
  | p :: _ => decide (p.1 = w)
theorem hdH_s {w : List Int} {n : Nat} {r : Nat → SgV} : hdH w (rdx (n + 1) r) = hdH w (rdx n r) ++ hdB w (r n) := sorry
theorem hdB_in {w : List Int} {d : Int} {r : SgV} (h : ∀ p, p ∈ r → hIn d p.2) : hIn d (hdB w r) := sorry
/-- hits of documents in order are in order -/
theorem hdH_in {w : List Int} {D : Nat → Int} : ∀ (n : Nat) {r : Nat → SgV}, (∀ i, i < n → ∀ p, p ∈ r i → hIn (D i) p.2) → (∀ i j, i < j → j < n → D i < D j) → (∀ i, i < n → 0 ≤ D i) → (hdH w (rdx n r)).Pairwise (fun x y => x < y) ∧ ∀ x, x ∈ hdH w (rdx n r) → 0 ≤ x ∧ ∃ i, i < n ∧ x < (D i + 1) * 16384 := sorry
theorem asc_of : ∀ {l : List Int} {p : Int}, l.Pairwise (fun x y => x < y) → (∀ x, x ∈ l → p ≤ x ∧ x < 9000000000000000000) → asc p l := sorry
section IXB
variable {ω : AO} {d G g : Nat} {Θ Θ1 : Th} {a pa sc k c2 e2 cb eb csc esc : Int} {F P rsC rb bd : List Int} {WV : Int → Wv} {r : Nat → SgV} {n : Nat}
/-- what is read of the index and its documents -/
def IxB (Θ : Th) (a : Int) (F rb : List Int) (cb eb : Int) (bd rsC : List Int) (c2 e2 : Int) (WV : Int → Wv) : Prop := xo Θ a = (21, F, 0, 0) ∧ xo Θ (gt F 8) = (3, rb, cb, eb) ∧ all2 (IntO Θ) rb bd ∧ xo Θ (gt F 2) = (3, rsC, c2, e2) ∧ DocO Θ rsC bd WV
theorem IxB.keep {ex : Int → Prop} (h : IxB Θ a F rb cb eb bd rsC c2 e2 WV) (g : GrX ex Θ Θ1) (n1 : ¬ ex a) (n2 : ¬ ex (gt F 8)) (n3 : ¬ ex (gt F 2)) : IxB Θ1 a F rb cb eb bd rsC c2 e2 WV := sorry
/-- one word's hits come to the row, from all documents that have it next -/
theorem u_sg71 {Q : Int → Th → Prop} {s wr : Int} {w : List Int} (hd : 8 ≤ d) (hB : IxB Θ a F rb cb eb bd rsC c2 e2 WV) (h4 : gt F 4 = sc) (hw : Str Θ wr w) (hok : ∀ k, k ∈ bd → wvOk (WV k)) (hrl : len rsC ≤ 1000000) (hP : xo Θ pa = (104, P, 0, 0)) (hPl : len bd ≤ len P)
    (hP0 : ∀ i : Nat, i < bd.length → 0 ≤ gt P (i : Int) ∧ gt P (i : Int) ≤ ((WV (gt bd (i : Int))).1.length : Int)) (hr : ∀ i : Nat, i < bd.length → r i = (enD (WV (gt bd (i : Int))) (gt bd (i : Int))).drop (gt P (i : Int)).toNat) (hsk : kd Θ sc = 23) (hHl : (hdH w (rdx bd.length r)).length ≤ 1000000)
    (hQ : ∀ Θ' P' (g' : Nat), GrX (fun z => z = sc ∨ z = pa) Θ Θ' → xo Θ' sc = (23, hdH w (rdx bd.length r), rwN csc 0 (hdH w (rdx bd.length r)).length, esc) → ¬ fz Θ' sc → xo Θ' pa = (104, P', 0, 0) → ¬ fz Θ' pa → len P' = len P → (∀ i : Nat, i < bd.length → gt P' (i : Int) = if hwB w (r i) = true then gt P (i : Int) + 1 else gt P (i : Int)) → (g' : Int) ≤ g + (rwN csc 0 (hdH w (rdx bd.length r)).length - csc) → W2_X7_segment_71 ω d G a s pa wr (len bd) g' Θ' Q) (hG : (g : Int) + (rwN csc 0 (hdH w (rdx bd.length r)).length - csc) ≤ (G : Int)) (hc8 : 8 ≤ csc ∧ csc ≤ 2000000) :
    ∀ (N k : Nat) (PA : List Int) (g1 : Nat) (Θ1 : Th), bd.length - k = N → k ≤ bd.length → GrX (fun z => z = sc ∨ z = pa) Θ Θ1 → xo Θ1 sc = (23, hdH w (rdx k r), rwN csc 0 (hdH w (rdx k r)).length, esc) → ¬ fz Θ1 sc → xo Θ1 pa = (104, PA, 0, 0) → ¬ fz Θ1 pa → len PA = len P → (∀ i : Nat, i < bd.length → gt PA (i : Int) = if i < k ∧ hwB w (r i) = true then gt P (i : Int) + 1 else gt P (i : Int)) → (g1 : Int) ≤ g + (rwN csc 0 (hdH w (rdx k r)).length - csc) → W2_X7_segment_71 ω d G a s pa wr (k : Int) g1 Θ1 Q := sorry
end IXB

/-! 78.ad.lean.txt -/
/-! the index: documents become a segment -/
set_option maxRecDepth 100000
theorem encE_len {l : List Int} : len l + 1 ≤ len (encE l) := sorry
theorem encS_in : ∀ {W : SgV}, (W.length : Int) + sgT W ≤ len (encS W) := sorry
theorem tl_drop {w : Wv} {d P : Int} {t : List Int} (h0 : 0 ≤ P) : tlB t ((enD w d).drop P.toNat) = (enD w d).drop (if hwB t ((enD w d).drop P.toNat) = true then P + 1 else P).toNat := sorry
theorem hw_lt {w : Wv} {d P : Int} {t : List Int} (h : hwB t ((enD w d).drop P.toNat) = true) (hl : w.1.length = w.2.length) : P < (w.1.length : Int) := sorry
theorem adC_in {c n K : Int} (h0 : 0 ≤ n) (h : c ≤ K) (hn : n ≤ c) (hK : 10 ≤ K) (h2 : 3 * (n + 1) + 2 ≤ 2 * K) : adC c n ≤ K ∧ c ≤ adC c n := sorry
section IXC
variable {ω : AO} {d G g : Nat} {Θ Θ1 : Th} {a pa sc k c2 e2 cb eb csc esc s wl sa bs wk lv dc k0 : Int} {F P rsC rb bd : List Int} {WV : Int → Wv} {n : Nat} {WT : SgV}
abbrev exSg (s wl sa bs sc pa : Int) : Int → Prop := fun z => z = s ∨ z = wl ∨ z = sa ∨ z = bs ∨ z = sc ∨ z = pa
/-- word after word -/
theorem u_sg24 {Q : Int → Th → Prop} {KW KA KB KS : Int} (hd : 9 ≤ d) (hB : IxB Θ a F rb cb eb bd rsC c2 e2 WV) (h4 : gt F 4 = sc) (hok : ∀ k, k ∈ bd → wvOk (WV k)) (hrl : len rsC ≤ 1000000) (hbs : bd.Pairwise (fun x y => x < y)) (hks : kd Θ s = 54 ∧ kd Θ wl = 3 ∧ kd Θ sa = 104 ∧ kd Θ bs = 55 ∧ kd Θ sc = 23 ∧ kd Θ pa = 104) (hnp : pa ≠ sa) (hn8 : gt F 8 ≠ wl) (hn2 : gt F 2 ≠ wl)
    (hBT : len (encS WT) ≤ 1000000) (hK : (10 ≤ KW ∧ 3 * (WT.length : Int) + 2 ≤ 2 * KW ∧ KW ≤ 10000000) ∧ (2 * (WT.length : Int) ≤ KA ∧ KA ≤ 10000000) ∧ (2 * len (encS WT) ≤ KB ∧ KB ≤ 50000000) ∧ (2 * len (encS WT) ≤ KS ∧ KS ≤ 2000000)) (hs0 : -1 ≤ s) (hbl : (bd.length : Int) ≤ 1000000)
    (hQ : ∀ Θ' sa' cw' ca' cb' l' csc', GrX (exSg s wl sa bs sc pa) Θ Θ' → (sa' = sa ∨ kd Θ sa' = 0) → SgO Θ' s wl sa' bs wk lv dc k0 WT cw' ca' cb' → xo Θ' sc = (23, l', csc', esc) → ¬ fz Θ' sc → (cw' ≤ KW ∧ (WT.length : Int) ≤ cw' ∧ ca' ≤ KA ∧ cb' ≤ KB ∧ 8 ≤ csc' ∧ csc' ≤ KS ∧ len l' ≤ csc') → Q s Θ') :
    ∀ (m : Nat) (P : List Int) (r : Nat → SgV) (W : SgV) (b sa1 cw ca cb1 csc : Int) (l0 : List Int) (g : Nat) (Θ1 : Th), GrX (exSg s wl sa bs sc pa) Θ Θ1 → (sa1 = sa ∨ kd Θ sa1 = 0) → SgO Θ1 s wl sa1 bs wk lv dc k0 W cw ca cb1 → xo Θ1 sc = (23, l0, csc, esc) → ¬ fz Θ1 sc → xo Θ1 pa = (104, P, 0, 0) → ¬ fz Θ1 pa → len bd ≤ len P → (∀ i : Nat, i < bd.length → 0 ≤ gt P (i : Int) ∧ gt P (i : Int) ≤ ((WV (gt bd (i : Int))).1.length : Int)) → (∀ i : Nat, i < bd.length → r i = (enD (WV (gt bd (i : Int))) (gt bd (i : Int))).drop (gt P (i : Int)).toNat) →
      Lz bd.length r b → szR (rdx bd.length r) ≤ m → W ++ kwm m (rdx bd.length r) = WT → (cw ≤ KW ∧ (W.length : Int) ≤ cw ∧ ca ≤ KA ∧ cb1 ≤ KB ∧ 8 ≤ csc ∧ csc ≤ KS ∧ len l0 ≤ csc) → (g : Int) + (KW - cw) + (KA - ca) + (KB - cb1) + (KS - csc) ≤ (G : Int) → W2_X7_segment_24 ω d G a s pa b g Θ1 Q := sorry
end IXC

/-! 78.ae.lean.txt -/
/-! steps of what is owned; the index's items; a fresh segment -/
set_option maxRecDepth 100000
/-- all places of items -/
def fpr (L : List It) : List Int := L.flatMap (fun x => x.1)
theorem fpr_mem {L : List It} {z : Int} : z ∈ fpr L ↔ ∃ x, x ∈ L ∧ z ∈ x.1 := List.mem_flatMap
/-- from these items to those -/
def OwT (Θ : Th) (L : List It) (Θ' : Th) (L' : List It) : Prop := GrX (fun z => z ∈ fpr L) Θ Θ' ∧ OwS Θ' L' ∧ ∀ z, z ∈ fpr L' → z ∈ fpr L ∨ kd Θ z = 0
section OWTS
variable {Θ Θ1 Θ2 : Th} {L L1 L2 R : List It} {x y : It} {ex : Int → Prop} {n : Nat} {a : Int} {c : Cl}
theorem OwS.hk (h : OwS Θ L) : ∀ z, z ∈ fpr L → 0 < kd Θ z ∧ kd Θ z < 200 := sorry
theorem OwT.rf (h : OwS Θ L) : OwT Θ L Θ L := ⟨GrX.rf, h, fun _ hz => Or.inl hz⟩
theorem OwT.old (h0 : OwS Θ L) (h : OwT Θ L Θ1 L1) {z : Int} (hz : kd Θ1 z = 0) : kd Θ z = 0 := old0 h.1 (fun b y => h0.hk b y) hz
theorem OwT.tr (h0 : OwS Θ L) (h : OwT Θ L Θ1 L1) (h2 : OwT Θ1 L1 Θ2 L2) : OwT Θ L Θ2 L2 := sorry
theorem OwT.perm {L1' : List It} (h : OwT Θ L Θ1 L1) (p : L1.Perm L1') : OwT Θ L Θ1 L1' := sorry
theorem OwT.permL {L' : List It} (h : OwT Θ L Θ1 L1) (p : L.Perm L') : OwT Θ L' Θ1 L1 := sorry
/-- the rest stays -/
theorem OwT.frame (h0 : OwS Θ (L ++ R)) (h : OwT Θ L Θ1 L1) : OwT Θ (L ++ R) Θ1 (L1 ++ R) := sorry
/-- an item is forgotten -/
theorem OwT.drop (h : OwT Θ L Θ1 (x :: L1)) : OwT Θ L Θ1 L1 := sorry
/-- nothing owned is altered -/
theorem OwT.gr (h : OwS Θ L) (g : Gr Θ Θ1) : OwT Θ L Θ1 L := ⟨g.x, h.gr g, fun _ hz => Or.inl hz⟩
/-- one item is altered, or takes what is new -/
theorem OwT.alt (h : OwS Θ L) (hn : L[n]? = some x) (g : GrX ex Θ Θ1) (he : ∀ z, ex z → 0 < kd Θ z → z ∈ x.1) (h1 : y.2 Θ1) (h2 : stb y) (h3 : live Θ1 y.1) (h4 : ∀ z, z ∈ y.1 → z ∈ x.1 ∨ kd Θ z = 0) : OwT Θ L Θ1 (L.set n y) := sorry
/-- a plain object takes other contents -/
theorem OwT.put {c' : Cl} (h : OwS Θ L) (hn : L[n]? = some (obj a c)) (hc : 0 < c.1) (hk : c'.1 = c.1) (e : Θ1 = uq Θ a c') : OwT Θ L Θ1 (L.set n (obj a c')) := sorry
/-- what is new comes -/
theorem OwT.add (h : OwS Θ L) (g : Gr Θ Θ1) (h1 : x.2 Θ1) (h2 : stb x) (h3 : live Θ1 x.1) (h4 : ∀ z, z ∈ x.1 → kd Θ z = 0) : OwT Θ L Θ1 (x :: L) := sorry
/-- an item is seen otherwise -/
theorem OwS.as (h : OwS Θ (x :: L)) (hf : y.1 = x.1) (h1 : y.2 Θ) (h2 : stb y) : OwS Θ (y :: L) := sorry
theorem OwT.as (h : OwT Θ L Θ1 (x :: L1)) (hf : y.1 = x.1) (h1 : y.2 Θ1) (h2 : stb y) : OwT Θ L Θ1 (y :: L1) := sorry
end OWTS
/-- a list as an item: its capacity is known -/
def lsI (a : Int) (rs : List Int) (c : Int) : It := ([a], fun Θ => ∃ e, xo Θ a = (3, rs, c, e) ∧ ¬ fz Θ a)
theorem lsI_stb {a c : Int} {rs : List Int} : stb (lsI a rs c) := sorry
theorem lsI_live {Θ : Th} {a c e : Int} {rs : List Int} (h : xo Θ a = (3, rs, c, e)) : live Θ [a] := sorry
/-- a row of hits as an item -/
def hiI (a : Int) : It := ([a], fun Θ => ∃ l c e, xo Θ a = (23, l, c, e) ∧ ¬ fz Θ a ∧ 8 ≤ c ∧ len l ≤ c ∧ c ≤ 2000000)
theorem hiI_stb {a : Int} : stb (hiI a) := sorry
abbrev SgR : Type := Int × Int × Int × Int × Int
def sgF (r : SgR) : List Int := [r.1, r.2.1, r.2.2.1, r.2.2.2.1, r.2.2.2.2]
def SgW (Θ : Th) (r : SgR) (lv dc : Int) (W : SgV) : Prop := ∃ k cw ca cb, SgO Θ r.1 r.2.1 r.2.2.1 r.2.2.2.1 r.2.2.2.2 lv dc k W cw ca cb ∧ (W.length : Int) ≤ cw ∧ cw ≤ 10000000 ∧ ca ≤ 10000000 ∧ cb ≤ 50000000
/-- a segment as an item -/
def sgW (r : SgR) (lv dc : Int) (W : SgV) : It := (sgF r, fun Θ => SgW Θ r lv dc W)
def spI (r : SgR) : It := (sgF r, fun Θ => ∃ lv dc W, SgW Θ r lv dc W)
theorem sgF_mem {r : SgR} : r.1 ∈ sgF r ∧ r.2.1 ∈ sgF r ∧ r.2.2.1 ∈ sgF r ∧ r.2.2.2.1 ∈ sgF r ∧ r.2.2.2.2 ∈ sgF r := sorry
theorem sgF_in {r : SgR} {z : Int} (h : z ∈ sgF r) : z = r.1 ∨ z = r.2.1 ∨ z = r.2.2.1 ∨ z = r.2.2.2.1 ∨ z = r.2.2.2.2 := sorry
theorem sgW_stb {r : SgR} {lv dc : Int} {W : SgV} : stb (sgW r lv dc W) := sorry
theorem spI_stb {r : SgR} : stb (spI r) := sorry
theorem SgW.live {Θ : Th} {r : SgR} {lv dc : Int} {W : SgV} (h : SgW Θ r lv dc W) : live Θ (sgF r) := sorry
/-- a segment's documents -/
def dcI (a : Int) (D : List Int) : It := ([a], fun Θ => ∃ rs c e, xo Θ a = (3, rs, c, e) ∧ ¬ fz Θ a ∧ all2 (IntO Θ) rs D)
theorem dcI_stb {a : Int} {D : List Int} : stb (dcI a D) := sorry
/-- a segment: its objects, its documents' list, its level, its documents, its words -/
abbrev SgE : Type := SgR × Int × Int × List Int × SgV
def sxW (x : SgE) : It := sgW x.1 x.2.2.1 x.2.1 x.2.2.2.2
def sxD (x : SgE) : It := dcI x.2.1 x.2.2.2.1
/-- all that is the index's -/
def ixL (a sg ml cl tk tkc sc on ot bf sp pc n1 : Int) (f : Int → Bool) (rsM rsC rb : List Int) (c0 c1 c2 c8 c9 : Int) (SG : List SgE) (SP : List SgR) : List It :=
  obj a (21, [sg, ml, cl, tk, sc, on, ot, pc, bf, sp], 0, 0) :: lsI sg (SG.map (fun x => x.1.1)) c0 :: lsI ml rsM c1 :: lsI cl rsC c2 :: btI tk tkc n1 f :: hiI sc :: hiI on :: hiI ot :: lsI bf rb c8 :: lsI sp (SP.map (fun r => r.1)) c9 :: (SG.map sxW ++ (SG.map sxD ++ SP.map spI))
section FRS
variable {ω : AO} {d G : Nat} {Θ : Th} {a sg ml cl tk tkc sc on ot bf sp pc n1 c0 c1 c2 c8 c9 : Int} {f : Int → Bool} {rsM rsC rb : List Int} {SG : List SgE} {SP : List SgR}
theorem del_last {l : List Int} {x : Int} : del (l ++ [x]) (len (l ++ [x]) - 1) = l := sorry
theorem u_X7_fresh {Q : Int → Th → Prop} (hd : 6 ≤ d) (h : OwS Θ (ixL a sg ml cl tk tkc sc on ot bf sp pc n1 f rsM rsC rb c0 c1 c2 c8 c9 SG SP)) (hG : 24 ≤ G)
    (hQ : ∀ Θ' r SP', OwT Θ (ixL a sg ml cl tk tkc sc on ot bf sp pc n1 f rsM rsC rb c0 c1 c2 c8 c9 SG SP) Θ' (spI r :: ixL a sg ml cl tk tkc sc on ot bf sp pc n1 f rsM rsC rb c0 c1 c2 c8 c9 SG SP') → SP' = SP.dropLast → Q r.1 Θ') : w2_X7_fresh ω d G a Θ Q := sorry
end FRS

/-! 78.af.lean.txt -/
/-! the index: a segment of the documents that wait -/
set_option maxRecDepth 100000
/-- the rows of documents -/
def rwD (WV : Int → Wv) (bd : List Int) : List SgV := rdx bd.length (fun i => enD (WV (gt bd (i : Int))) (gt bd (i : Int)))
/-- the words of documents with their hits -/
def sgX (WV : Int → Wv) (bd : List Int) : SgV := kwm (szR (rwD WV bd)) (rwD WV bd)
def sgG (W : SgV) : Int := 4 * (W.length : Int) + 4 * len (encS W) + 10
/-- several items are altered -/
theorem OwT.alts {Θ Θ1 : Th} {U U' : List It} {ex : Int → Prop} (h : OwS Θ U) (g : GrX ex Θ Θ1) (he : ∀ z, ex z → 0 < kd Θ z → z ∈ fpr U) (h1 : OwS Θ1 U') (h2 : ∀ z, z ∈ fpr U' → z ∈ fpr U ∨ kd Θ z = 0) : OwT Θ U Θ1 U' :=
  ⟨g.mono (fun b hb y => he b y hb), h1, h2⟩
theorem mid5 {A : Type} {x1 x2 x3 x4 x5 y : A} {T : List A} : (x1 :: x2 :: x3 :: x4 :: x5 :: y :: T).Perm (y :: (x1 :: x2 :: x3 :: x4 :: x5 :: T)) := sorry
section SGM
variable {ω : AO} {d G : Nat} {Θ : Th} {a sg ml cl tk tkc sc on ot bf sp pc n1 c0 c1 c2 c8 c9 : Int} {f : Int → Bool} {rsM rsC rb bd : List Int} {SG : List SgE} {SP : List SgR} {WV : Int → Wv}
theorem u_X7_segment {Q : Int → Th → Prop} (hd : 12 ≤ d) (h : OwS Θ (ixL a sg ml cl tk tkc sc on ot bf sp pc n1 f rsM rsC rb c0 c1 c2 c8 c9 SG SP)) (hbd : all2 (IntO Θ) rb bd) (hW : DocO Θ rsC bd WV) (hok : ∀ k, k ∈ bd → wvOk (WV k)) (hrl : len rsC ≤ 1000000) (hbs : bd.Pairwise (fun x y => x < y)) (hb12 : bd.length ≤ 12) (hBT : len (encS (sgX WV bd)) ≤ 1000000) (hG : sgG (sgX WV bd) + 40 ≤ (G : Int))
    (hQ : ∀ Θ' r SP', OwT Θ (ixL a sg ml cl tk tkc sc on ot bf sp pc n1 f rsM rsC rb c0 c1 c2 c8 c9 SG SP) Θ' (sgW r 0 bf (sgX WV bd) :: ixL a sg ml cl tk tkc sc on ot bf sp pc n1 f rsM rsC rb c0 c1 c2 c8 c9 SG SP') → SP' = SP.dropLast → Q r.1 Θ') : w2_X7_segment ω d G a Θ Q := sorry
end SGM

/-! 78.ag.lean.txt -/
/-! the index: which segment has the least next word; whether four segments are alike -/
set_option maxRecDepth 100000
/-- a segment's words -/
def SgD (Θ : Th) (s : Int) (ws : List (List Int)) : Prop := ∃ SF rs c e, xo Θ s = (54, SF, 0, 0) ∧ xo Θ (gt SF 2) = (3, rs, c, e) ∧ all2 (Str Θ) rs ws ∧ ws.length ≤ 1000000
theorem SgW.sgd {Θ : Th} {r : SgR} {lv dc : Int} {W : SgV} (h : SgW Θ r lv dc W) (hl : W.length ≤ 1000000) : SgD Θ r.1 (W.map (fun p => p.1)) := sorry
section LST
variable {ω : AO} {d G g : Nat} {Θ Θ1 : Th} {a pa c0 e0 : Int} {F P ss : List Int} {r : Nat → SgV} {n fr : Nat} {ws : Nat → List (List Int)}
theorem u_X7_leastAt {Q : Int → Th → Prop} (hd : 7 ≤ d) (h : xo Θ a = (21, F, 0, 0)) (hb : xo Θ (gt F 0) = (3, ss, c0, e0)) (hn : len ss = ((fr + n : Nat) : Int)) (hS : ∀ i : Nat, i < n → SgD Θ (gt ss ((fr + i : Nat) : Int)) (ws i)) (hP : xo Θ pa = (104, P, 0, 0)) (hPl : len ss ≤ len P) (hP0 : ∀ i : Nat, i < n → 0 ≤ gt P ((fr + i : Nat) : Int)) (hr : ∀ i : Nat, i < n → rWd (r i) (ws i) (gt P ((fr + i : Nat) : Int)))
    (hQ : ∀ b b', Lz n r b → b' = (if b < 0 then -1 else (fr : Int) + b) → Q b' Θ) : w2_X7_leastAt ω d G a (fr : Int) pa Θ Q := sorry
/-- the last four segments are of one level -/
def fourB (lv : List Int) : Bool := decide (4 ≤ len lv) && (decide (gt lv (len lv - 2) = gt lv (len lv - 1)) && (decide (gt lv (len lv - 3) = gt lv (len lv - 1)) && decide (gt lv (len lv - 4) = gt lv (len lv - 1))))
theorem u_X7_areFour {Q : Int → Th → Prop} {lv : List Int} (hd : 3 ≤ d) (h : xo Θ a = (21, F, 0, 0)) (hb : xo Θ (gt F 0) = (3, ss, c0, e0)) (hl : len ss = len lv) (hS : ∀ i, 0 ≤ i → i < len ss → ∃ SF, xo Θ (gt ss i) = (54, SF, 0, 0) ∧ gt SF 0 = gt lv i) (hQ : ∀ z, z = (if fourB lv = true then 1 else 0) → Q z Θ) : w2_X7_areFour ω d G a Θ Q := sorry
end LST

/-! 78.ah.lean.txt -/
/-! the index: one word's hits come together, from segments -/
set_option maxRecDepth 100000
/-- what must hold of a segment's words -/
def sgOk (W : SgV) : Prop := SrW W ∧ (∀ p, p ∈ W → 0 < len p.1 ∧ p.2.Pairwise (fun x y => x < y) ∧ ∀ x, x ∈ p.2 → 0 ≤ x ∧ x < 1000000000000) ∧ len (encS W) ≤ 1000000
def rdW (f : Int → Bool) (W : SgV) : SgV := W.map (fun p => (p.1, rdF f p.2))
theorem rdW_wd {f : Int → Bool} {W : SgV} : (rdW f W).map (fun p => p.1) = W.map (fun p => p.1) := by
  unfold rdW
  rw [List.map_map]; rfl
theorem rdW_get {f : Int → Bool} {W : SgV} {i : Nat} {p : List Int × List Int} (h : W[i]? = some p) : (rdW f W)[i]? = some (p.1, rdF f p.2) := by
  unfold rdW
  rw [List.getElem?_map, h]; rfl
theorem rdF_sub {f : Int → Bool} {l : List Int} : ∀ x, x ∈ rdF f l → x ∈ l := fun x hx => (List.mem_filter.mp hx).1
theorem rdF_pw {f : Int → Bool} {l : List Int} (h : l.Pairwise (fun x y => x < y)) : (rdF f l).Pairwise (fun x y => x < y) := h.sublist List.filter_sublist
theorem rdW_mem {f : Int → Bool} {W : SgV} {q : List Int × List Int} (h : q ∈ rdW f W) : ∃ p, p ∈ W ∧ q = (p.1, rdF f p.2) := sorry
/-- hits of rows in order are in order -/
theorem hdH_lt {w : List Int} : ∀ (n : Nat) {r : Nat → SgV}, (∀ i, i < n → ∀ p, p ∈ r i → p.2.Pairwise (fun x y => x < y)) → (∀ i j, i < j → j < n → ∀ p, p ∈ r i → ∀ q, q ∈ r j → ∀ x, x ∈ p.2 → ∀ y, y ∈ q.2 → x < y) → (hdH w (rdx n r)).Pairwise (fun x y => x < y) ∧ ∀ x, x ∈ hdH w (rdx n r) → ∃ i, i < n ∧ ∃ p, p ∈ r i ∧ x ∈ p.2 := sorry
section MG1
variable {ω : AO} {d G g : Nat} {Θ Θ1 : Th} {a pa sc tk tkc n1 c0 e0 csc esc : Int} {F P ss : List Int} {f : Int → Bool} {r : Nat → SgV} {n fr : Nat} {R : Nat → SgR} {lvf dcf : Nat → Int} {Wf : Nat → SgV}
/-- what is altered while segments are read -/
abbrev exMg (n : Nat) (R : Nat → SgR) (sc pa : Int) : Int → Prop := fun z => z = sc ∨ z = pa ∨ ∃ i, i < n ∧ z = (R i).2.2.2.2
/-- what is read of the index and its segments -/
def MgB (Θ : Th) (a : Int) (F ss : List Int) (c0 e0 tk tkc n1 : Int) (f : Int → Bool) (fr n : Nat) (R : Nat → SgR) (lvf dcf : Nat → Int) (Wf : Nat → SgV) : Prop := xo Θ a = (21, F, 0, 0) ∧ xo Θ (gt F 0) = (3, ss, c0, e0) ∧ BtO Θ tk tkc n1 f ∧ (∀ i, i < n → gt ss ((fr + i : Nat) : Int) = (R i).1 ∧ SgW Θ (R i) (lvf i) (dcf i) (Wf i))
theorem MgB.keep (h : MgB Θ a F ss c0 e0 tk tkc n1 f fr n R lvf dcf Wf) {ex : Int → Prop} (g : GrX ex Θ Θ1) (h1 : ¬ ex a) (h2 : ¬ ex (gt F 0)) (h3 : ¬ ex tk ∧ ¬ ex tkc) (h4 : ∀ i, i < n → ∀ z, z ∈ sgF (R i) → ¬ ex z) : MgB Θ1 a F ss c0 e0 tk tkc n1 f fr n R lvf dcf Wf := sorry
theorem u_mg189 {Q : Th → Prop} {s l2 wr : Int} {w : List Int} (hd : 8 ≤ d) (hB : MgB Θ a F ss c0 e0 tk tkc n1 f fr n R lvf dcf Wf) (hn : len ss = ((fr + n : Nat) : Int)) (h4 : gt F 4 = sc) (h3 : gt F 3 = tk) (hw : Str Θ wr w) (hok : ∀ i, i < n → sgOk (Wf i)) (hP : xo Θ pa = (104, P, 0, 0)) (hPl : len ss ≤ len P)
    (hP0 : ∀ i : Nat, i < n → 0 ≤ gt P ((fr + i : Nat) : Int) ∧ gt P ((fr + i : Nat) : Int) ≤ ((Wf i).length : Int)) (hr : ∀ i : Nat, i < n → r i = (rdW f (Wf i)).drop (gt P ((fr + i : Nat) : Int)).toNat) (hsk : kd Θ sc = 23) (hdj : ∀ i j, i < n → j < n → i ≠ j → ∀ z, z ∈ sgF (R i) → z ∉ sgF (R j)) (hpaR : ∀ i, i < n → pa ∉ sgF (R i)) (hHl : (hdH w (rdx n r)).length ≤ 1000000)
    (hQ : ∀ Θ' P' (g' : Nat), GrX (exMg n R sc pa) Θ Θ' → MgB Θ' a F ss c0 e0 tk tkc n1 f fr n R lvf dcf Wf → xo Θ' sc = (23, hdH w (rdx n r), rwN csc 0 (hdH w (rdx n r)).length, esc) → ¬ fz Θ' sc → xo Θ' pa = (104, P', 0, 0) → ¬ fz Θ' pa → len P' = len P → (∀ i : Nat, i < n → gt P' ((fr + i : Nat) : Int) = if hwB w (r i) = true then gt P ((fr + i : Nat) : Int) + 1 else gt P ((fr + i : Nat) : Int)) → (g' : Int) ≤ g + (rwN csc 0 (hdH w (rdx n r)).length - csc) → W2_X7_merge_189 ω d G a (fr : Int) l2 s pa wr (len ss) g' Θ' Q) (hG : (g : Int) + (rwN csc 0 (hdH w (rdx n r)).length - csc) ≤ (G : Int)) (hc8 : 8 ≤ csc ∧ csc ≤ 2000000) :
    ∀ (N k : Nat) (PA : List Int) (g1 : Nat) (Θ1 : Th), n - k = N → k ≤ n → GrX (exMg n R sc pa) Θ Θ1 → MgB Θ1 a F ss c0 e0 tk tkc n1 f fr n R lvf dcf Wf → xo Θ1 sc = (23, hdH w (rdx k r), rwN csc 0 (hdH w (rdx k r)).length, esc) → ¬ fz Θ1 sc → xo Θ1 pa = (104, PA, 0, 0) → ¬ fz Θ1 pa → len PA = len P → (∀ i : Nat, i < n → gt PA ((fr + i : Nat) : Int) = if i < k ∧ hwB w (r i) = true then gt P ((fr + i : Nat) : Int) + 1 else gt P ((fr + i : Nat) : Int)) → (g1 : Int) ≤ g + (rwN csc 0 (hdH w (rdx k r)).length - csc) → W2_X7_merge_189 ω d G a (fr : Int) l2 s pa wr ((fr + k : Nat) : Int) g1 Θ1 Q := sorry
end MG1

/-! 78.ai.lean.txt -/
/-! the index: segments become one, word by word -/
set_option maxRecDepth 100000
set_option maxHeartbeats 4000000
theorem tl_dropG {L : SgV} {P : Int} {t : List Int} (h0 : 0 ≤ P) : tlB t (L.drop P.toNat) = L.drop (if hwB t (L.drop P.toNat) = true then P + 1 else P).toNat := sorry
theorem hw_ltG {L : SgV} {P : Int} {t : List Int} (h : hwB t (L.drop P.toNat) = true) : P < (L.length : Int) := sorry
section MG2
variable {ω : AO} {d G g : Nat} {Θ Θ1 : Th} {a pa sc tk tkc n1 c0 e0 csc esc s wl sa bs wk lv dc k0 l2 : Int} {F P ss : List Int} {f : Int → Bool} {n fr : Nat} {R : Nat → SgR} {lvf dcf : Nat → Int} {Wf : Nat → SgV} {WT : SgV}
abbrev exMn (n : Nat) (R : Nat → SgR) (s wl sa bs sc pa : Int) : Int → Prop := fun z => exSg s wl sa bs sc pa z ∨ ∃ i, i < n ∧ z = (R i).2.2.2.2
theorem u_mg145 {Q : Th → Prop} {KW KA KB KS Z : Int} (hZ : 0 ≤ Z) (hd : 9 ≤ d) (hB : MgB Θ a F ss c0 e0 tk tkc n1 f fr n R lvf dcf Wf) (hn : len ss = ((fr + n : Nat) : Int)) (hss6 : len ss ≤ 1000000) (h4 : gt F 4 = sc) (h3 : gt F 3 = tk) (hok : ∀ i, i < n → sgOk (Wf i)) (hdj : ∀ i j, i < n → j < n → i ≠ j → ∀ z, z ∈ sgF (R i) → z ∉ sgF (R j)) (hpaR : ∀ i, i < n → pa ∉ sgF (R i))
    (hord : ∀ i j, i < j → j < n → ∀ p, p ∈ Wf i → ∀ q, q ∈ Wf j → ∀ x, x ∈ p.2 → ∀ y, y ∈ q.2 → x < y)
    (hks : kd Θ s = 54 ∧ kd Θ wl = 3 ∧ kd Θ sa = 104 ∧ kd Θ bs = 55 ∧ kd Θ sc = 23 ∧ kd Θ pa = 104) (hnp : pa ≠ sa) (hn0 : gt F 0 ≠ wl) (hsR : ∀ i, i < n → s ∉ sgF (R i) ∧ wl ∉ sgF (R i) ∧ sa ∉ sgF (R i) ∧ bs ∉ sgF (R i) ∧ wk ∉ sgF (R i))
    (hBT : len (encS WT) ≤ 1000000) (hK : (10 ≤ KW ∧ 3 * (WT.length : Int) + 2 ≤ 2 * KW ∧ KW ≤ 10000000) ∧ (2 * (WT.length : Int) ≤ KA ∧ KA ≤ 10000000) ∧ (2 * len (encS WT) ≤ KB ∧ KB ≤ 50000000) ∧ (2 * len (encS WT) ≤ KS ∧ KS ≤ 2000000))
    (hQ : ∀ Θ' sa' cw' ca' cb' l' csc' (g' : Nat), GrX (exMn n R s wl sa bs sc pa) Θ Θ' → (sa' = sa ∨ kd Θ sa' = 0) → MgB Θ' a F ss c0 e0 tk tkc n1 f fr n R lvf dcf Wf → SgO Θ' s wl sa' bs wk lv dc k0 WT cw' ca' cb' → xo Θ' sc = (23, l', csc', esc) → ¬ fz Θ' sc → (cw' ≤ KW ∧ (WT.length : Int) ≤ cw' ∧ ca' ≤ KA ∧ cb' ≤ KB ∧ 8 ≤ csc' ∧ csc' ≤ KS ∧ len l' ≤ csc') → (g' : Int) + (KW - cw') + (KA - ca') + (KB - cb') + (KS - csc') + Z ≤ (G : Int) → W2_X7_merge_323 ω d G a (fr : Int) l2 s g' Θ' Q) :
    ∀ (m : Nat) (P : List Int) (r : Nat → SgV) (W : SgV) (b b' sa1 cw ca cb1 csc : Int) (l0 : List Int) (g : Nat) (Θ1 : Th), GrX (exMn n R s wl sa bs sc pa) Θ Θ1 → (sa1 = sa ∨ kd Θ sa1 = 0) → MgB Θ1 a F ss c0 e0 tk tkc n1 f fr n R lvf dcf Wf → SgO Θ1 s wl sa1 bs wk lv dc k0 W cw ca cb1 → xo Θ1 sc = (23, l0, csc, esc) → ¬ fz Θ1 sc → xo Θ1 pa = (104, P, 0, 0) → ¬ fz Θ1 pa → len ss ≤ len P → (∀ i : Nat, i < n → 0 ≤ gt P ((fr + i : Nat) : Int) ∧ gt P ((fr + i : Nat) : Int) ≤ ((Wf i).length : Int)) → (∀ i : Nat, i < n → r i = (rdW f (Wf i)).drop (gt P ((fr + i : Nat) : Int)).toNat) →
      Lz n r b → b' = (if b < 0 then -1 else (fr : Int) + b) → szR (rdx n r) ≤ m → W ++ kwm m (rdx n r) = WT → (cw ≤ KW ∧ (W.length : Int) ≤ cw ∧ ca ≤ KA ∧ cb1 ≤ KB ∧ 8 ≤ csc ∧ csc ≤ KS ∧ len l0 ≤ csc) → (g : Int) + (KW - cw) + (KA - ca) + (KB - cb1) + (KS - csc) + Z ≤ (G : Int) → W2_X7_merge_145 ω d G a (fr : Int) l2 s pa b' g Θ1 Q := sorry
end MG2

/-! 78.aj.lean.txt -/
/-! the index: the documents that are left; what went becomes spare -/
set_option maxRecDepth 100000
/-- the documents that are left -/
def lfD (f : Int → Bool) (D : List Int) : List Int := D.filter (fun k => !f k)
theorem lfD_cons {f : Int → Bool} {k : Int} {D : List Int} : lfD f (k :: D) = if f k = true then lfD f D else k :: lfD f D := sorry
theorem lfD_app {f : Int → Bool} {A B : List Int} : lfD f (A ++ B) = lfD f A ++ lfD f B := List.filter_append ..
def dcS (D : Nat → List Int) : Nat → List Int
  | 0 => []
  | n + 1 => dcS D n ++ D n
section MG3
variable {ω : AO} {d G g : Nat} {Θ Θ1 : Th} {a tk tkc n1 c0 e0 l2 cd ed : Int} {F ss rsd Dj : List Int} {f : Int → Bool} {n fr : Nat} {R : Nat → SgR} {lvf dcf : Nat → Int} {Wf : Nat → SgV} {D : Nat → List Int}
theorem MgB.kept (h : MgB Θ a F ss c0 e0 tk tkc n1 f fr n R lvf dcf Wf) (g : GrX (· = l2) Θ Θ1) (hk : kd Θ l2 = 3) (n0 : l2 ≠ gt F 0) (nR : ∀ i, i < n → l2 ∉ sgF (R i)) : MgB Θ1 a F ss c0 e0 tk tkc n1 f fr n R lvf dcf Wf := sorry
/-- one segment's documents -/
theorem u_mg40 {Q : Th → Prop} {j : Nat} {D2 : List Int} (hd : 8 ≤ d) (hB : MgB Θ a F ss c0 e0 tk tkc n1 f fr n R lvf dcf Wf) (h3 : gt F 3 = tk) (hj : j < n) (hdoc : xo Θ (dcf j) = (3, rsd, cd, ed)) (hDj : all2 (IntO Θ) rsd Dj) (hk : ∀ k, k ∈ Dj → 0 ≤ k ∧ k ≤ 1000000) (hl2 : kd Θ l2 = 3) (n0 : l2 ≠ gt F 0) (nR : ∀ i, i < n → l2 ∉ sgF (R i)) (nd : dcf j ≠ l2) (hln : (D2.length : Int) + (Dj.length : Int) ≤ 1000000)
    (hQ : ∀ Θ' rs2 e2 (g' : Nat), GrX (· = l2) Θ Θ' → MgB Θ' a F ss c0 e0 tk tkc n1 f fr n R lvf dcf Wf → xo Θ' l2 = (3, rs2, cpZ rs2.length, e2) → ¬ fz Θ' l2 → all2 (IntO Θ') rs2 (D2 ++ lfD f Dj) → (g' : Int) ≤ g + (cpZ (D2 ++ lfD f Dj).length - cpZ D2.length) → W2_X7_merge_10 ω d G a (fr : Int) l2 (((fr + j : Nat) : Int) + 1) g' Θ' Q) (hG : (g : Int) + (cpZ (D2 ++ lfD f Dj).length - cpZ D2.length) ≤ (G : Int)) :
    ∀ (N : Nat) (i : Int) (rs2 D1 : List Int) (e2 : Int) (g1 : Nat) (Θ1 : Th), (len Dj - i).toNat = N → 0 ≤ i → i ≤ len Dj → GrX (· = l2) Θ Θ1 → xo Θ1 l2 = (3, rs2, cpZ rs2.length, e2) → ¬ fz Θ1 l2 → all2 (IntO Θ1) rs2 D1 → D1 ++ lfD f (Dj.drop i.toNat) = D2 ++ lfD f Dj → (g1 : Int) ≤ g + (cpZ D1.length - cpZ D2.length) → W2_X7_merge_40 ω d G a (fr : Int) l2 ((fr + j : Nat) : Int) (dcf j) i g1 Θ1 Q := sorry
/-- all documents that are left -/
theorem u_mg10 {Q : Th → Prop} (hd : 8 ≤ d) (hB : MgB Θ a F ss c0 e0 tk tkc n1 f fr n R lvf dcf Wf) (hn : len ss = ((fr + n : Nat) : Int)) (hss6 : len ss ≤ 1000000) (h3 : gt F 3 = tk) (hdoc : ∀ j, j < n → ∃ rsd cd ed, xo Θ (dcf j) = (3, rsd, cd, ed) ∧ all2 (IntO Θ) rsd (D j)) (hk : ∀ j, j < n → ∀ k, k ∈ D j → 0 ≤ k ∧ k ≤ 1000000) (hl2 : kd Θ l2 = 3) (n0 : l2 ≠ gt F 0) (nR : ∀ i, i < n → l2 ∉ sgF (R i)) (nd : ∀ j, j < n → dcf j ≠ l2) (hln : ((dcS D n).length : Int) ≤ 1000000)
    (hQ : ∀ Θ' rs2 e2 (g' : Nat), GrX (· = l2) Θ Θ' → MgB Θ' a F ss c0 e0 tk tkc n1 f fr n R lvf dcf Wf → xo Θ' l2 = (3, rs2, cpZ rs2.length, e2) → ¬ fz Θ' l2 → all2 (IntO Θ') rs2 (lfD f (dcS D n)) → (g' : Int) ≤ g + cpZ (lfD f (dcS D n)).length → W2_X7_merge_10 ω d G a (fr : Int) l2 (len ss) g' Θ' Q) (hG : (g : Int) + cpZ (lfD f (dcS D n)).length ≤ (G : Int)) :
    ∀ (N j : Nat) (rs2 : List Int) (e2 : Int) (g1 : Nat) (Θ1 : Th), n - j = N → j ≤ n → GrX (· = l2) Θ Θ1 → MgB Θ1 a F ss c0 e0 tk tkc n1 f fr n R lvf dcf Wf → xo Θ1 l2 = (3, rs2, cpZ rs2.length, e2) → ¬ fz Θ1 l2 → all2 (IntO Θ1) rs2 (lfD f (dcS D j)) → (g1 : Int) ≤ g + cpZ (lfD f (dcS D j)).length → W2_X7_merge_10 ω d G a (fr : Int) l2 ((fr + j : Nat) : Int) g1 Θ1 Q := sorry
end MG3
/-! the tail of the index's items -/
theorem pm2 {A : Type} {X T1 T2 : List A} {u v : A} (p : T1.Perm (u :: v :: T2)) : (X ++ T1).Perm (u :: v :: (X ++ T2)) := sorry
theorem pm1 {A : Type} {X T1 T2 : List A} {u : A} (p : (u :: T1).Perm T2) : (u :: (X ++ T1)).Perm (X ++ T2) :=
  (List.perm_middle.symm).trans (p.append_left X)
def ixT (SG : List SgE) (SP : List SgR) : List It := SG.map sxW ++ (SG.map sxD ++ SP.map spI)
theorem ixT_out {SG : List SgE} {SP : List SgR} {x : SgE} : (ixT (SG ++ [x]) SP).Perm (sxW x :: sxD x :: ixT SG SP) := sorry
theorem ixT_in {SG : List SgE} {SP : List SgR} {x : SgE} : (sxW x :: sxD x :: ixT SG SP).Perm (ixT (SG ++ [x]) SP) := ixT_out.symm
theorem ixT_sp {SG : List SgE} {SP : List SgR} {r : SgR} : (spI r :: ixT SG SP).Perm (ixT SG (SP ++ [r])) := sorry
/-! 78.ak.lean.txt -/
/-! the index: the end of a merge -/
set_option maxRecDepth 100000
def apC (c n : Int) : Nat → Int
  | 0 => c
  | k + 1 => apC (adC c n) (n + 1) k
theorem adC_geC {c n : Int} (h : 0 ≤ c) : c ≤ adC c n := sorry
theorem apC_ge : ∀ {k : Nat} {c n : Int}, 0 ≤ c → c ≤ apC c n k := sorry
section E323
variable {ω : AO} {d G : Nat} {a sg ml cl tk tkc sc on ot bf sp pc n1 c0 c1 c2 c8 l2 lvN : Int} {f : Int → Bool} {rsM rsC rb DN : List Int} {rN : SgR} {WT : SgV} {A : List SgE}
/-- what the spares come to -/
def spE (DN : List Int) (rN : SgR) (M : List SgE) (SP : List SgR) : List SgR := SP ++ (M.reverse.map (fun x => x.1) ++ (if DN = [] then [rN] else []))
def sgE (DN : List Int) (rN : SgR) (l2 lvN : Int) (WT : SgV) (A : List SgE) : List SgE := if DN = [] then A else A ++ [(rN, l2, lvN, DN, WT)]
def nuE (DN : List Int) : Nat := if DN = [] then 1 else 0
theorem u_mg323 {Q : Th → Prop} (hd : 8 ≤ d) (hA : (A.length : Int) ≤ 1000000) (hc0 : 0 ≤ c0 ∧ adC c0 (A.length : Int) ≤ 60000000) : ∀ (m : Nat) (M : List SgE) (SP : List SgR) (c9 : Int) (g : Nat) (Θ : Th), M.length = m → OwS Θ (sgW rN lvN l2 WT :: dcI l2 DN :: ixL a sg ml cl tk tkc sc on ot bf sp pc n1 f rsM rsC rb c0 c1 c2 c8 c9 (A ++ M) SP) → 0 ≤ c9 → apC c9 (SP.length : Int) (m + nuE DN) ≤ 60000000 → (SP.length : Int) + (m : Int) ≤ 1000000 → m ≤ 1000 →
    (g : Int) + (apC c9 (SP.length : Int) (m + nuE DN) - c9) + (if DN = [] then 0 else adC c0 (A.length : Int) - c0) ≤ (G : Int) → (∀ Θ', OwT Θ (sgW rN lvN l2 WT :: dcI l2 DN :: ixL a sg ml cl tk tkc sc on ot bf sp pc n1 f rsM rsC rb c0 c1 c2 c8 c9 (A ++ M) SP) Θ' (ixL a sg ml cl tk tkc sc on ot bf sp pc n1 f rsM rsC rb (if DN = [] then c0 else adC c0 (A.length : Int)) c1 c2 c8 (apC c9 (SP.length : Int) (m + nuE DN)) (sgE DN rN l2 lvN WT A) (spE DN rN M SP)) → Q Θ') → W2_X7_merge_323 ω d G a (A.length : Int) l2 rN.1 g Θ Q := sorry
end E323

/-! 78.al.lean.txt -/
/-! the index: a merge -/
set_option maxRecDepth 100000
set_option maxHeartbeats 4000000
abbrev se0 : SgE := ((0, 0, 0, 0, 0), 0, 0, [], [])
def mR (M : List SgE) (i : Nat) : SgR := (M.getD i se0).1
def mDc (M : List SgE) (i : Nat) : Int := (M.getD i se0).2.1
def mLv (M : List SgE) (i : Nat) : Int := (M.getD i se0).2.2.1
def mDs (M : List SgE) (i : Nat) : List Int := (M.getD i se0).2.2.2.1
def mWf (M : List SgE) (i : Nat) : SgV := (M.getD i se0).2.2.2.2
theorem getD_q {α : Type} {l : List α} {i : Nat} {d : α} (h : i < l.length) : l[i]? = some (l.getD i d) := sorry
section MGE
variable {ω : AO} {d G : Nat} {Θ : Th} {a sg ml cl tk tkc sc on ot bf sp pc n1 c0 c1 c2 c8 c9 : Int} {f : Int → Bool} {rsM rsC rb : List Int} {A M SG : List SgE} {SP : List SgR} {x : SgE}
theorem ixL_seg {i : Nat} (h : SG[i]? = some x) : (ixL a sg ml cl tk tkc sc on ot bf sp pc n1 f rsM rsC rb c0 c1 c2 c8 c9 SG SP)[i + 10]? = some (sxW x) := sorry
theorem ixL_memW (h : x ∈ SG) : sxW x ∈ ixL a sg ml cl tk tkc sc on ot bf sp pc n1 f rsM rsC rb c0 c1 c2 c8 c9 SG SP := sorry
theorem ixL_memD (h : x ∈ SG) : sxD x ∈ ixL a sg ml cl tk tkc sc on ot bf sp pc n1 f rsM rsC rb c0 c1 c2 c8 c9 SG SP := sorry
theorem mM_get {i : Nat} (hi : i < M.length) : (A ++ M)[A.length + i]? = some (M.getD i se0) := sorry
theorem mM_mem {i : Nat} (hi : i < M.length) : M.getD i se0 ∈ A ++ M := List.mem_of_getElem? (mM_get hi)
/-- what is read, from what is owned -/
theorem MgB.of (h : OwS Θ (ixL a sg ml cl tk tkc sc on ot bf sp pc n1 f rsM rsC rb c0 c1 c2 c8 c9 (A ++ M) SP)) : ∃ e0, MgB Θ a [sg, ml, cl, tk, sc, on, ot, pc, bf, sp] ((A ++ M).map (fun x => x.1.1)) c0 e0 tk tkc n1 f A.length M.length (mR M) (mLv M) (mDc M) (mWf M) := sorry
theorem mM_dj (h : OwS Θ (ixL a sg ml cl tk tkc sc on ot bf sp pc n1 f rsM rsC rb c0 c1 c2 c8 c9 (A ++ M) SP)) : ∀ i j, i < M.length → j < M.length → i ≠ j → ∀ z, z ∈ sgF (mR M i) → z ∉ sgF (mR M j) := sorry
/-- the words of segments that are left, together -/
def mgX (f : Int → Bool) (M : List SgE) : SgV := kwm (szR (rdx M.length (fun i => rdW f (mWf M i)))) (rdx M.length (fun i => rdW f (mWf M i)))
def mgD (f : Int → Bool) (M : List SgE) : List Int := lfD f (dcS (mDs M) M.length)
def mgE (c0 c9 : Int) (la ls : Int) (D : List Int) (m : Nat) : Int := (apC c9 ls (m + nuE D) - c9) + (if D = [] then 0 else adC c0 la - c0)
theorem pmM {A' : Type} {x1 x2 x3 x4 x5 y y1 y2 y3 y4 u : A'} {V1 V2 Z : List A'} : (u :: x1 :: x2 :: x3 :: x4 :: x5 :: y :: y1 :: y2 :: y3 :: y4 :: ((V1 ++ V2) ++ Z)).Perm (y :: (V2 ++ (u :: x1 :: x2 :: x3 :: x4 :: x5 :: y1 :: y2 :: y3 :: y4 :: (V1 ++ Z)))) := sorry
theorem u_X7_merge {Q : Th → Prop} (hd : 12 ≤ d) (h : OwS Θ (ixL a sg ml cl tk tkc sc on ot bf sp pc n1 f rsM rsC rb c0 c1 c2 c8 c9 (A ++ M) SP)) (hM : 0 < M.length) (hAl : (A.length : Int) + (M.length : Int) ≤ 1000000) (hM1 : M.length ≤ 1000) (hok : ∀ i, i < M.length → sgOk (mWf M i)) (hk : ∀ j, j < M.length → ∀ k, k ∈ mDs M j → 0 ≤ k ∧ k ≤ 1000000) (hln : ((dcS (mDs M) M.length).length : Int) ≤ 1000000)
    (hord : ∀ i j, i < j → j < M.length → ∀ p, p ∈ mWf M i → ∀ q, q ∈ mWf M j → ∀ x, x ∈ p.2 → ∀ y, y ∈ q.2 → x < y) (hlv : 0 ≤ mLv M 0 ∧ mLv M 0 ≤ 1000) (hBT : len (encS (mgX f M)) ≤ 1000000)
    (hc0 : 0 ≤ c0 ∧ adC c0 (A.length : Int) ≤ 60000000) (hc9 : 0 ≤ c9 ∧ apC c9 (SP.dropLast.length : Int) (M.length + nuE (mgD f M)) ≤ 60000000) (hSP : (SP.length : Int) + (M.length : Int) ≤ 1000000)
    (hG : sgG (mgX f M) + cpZ (mgD f M).length + ((A.length : Int) + (M.length : Int)) + 40 + mgE c0 c9 (A.length : Int) (SP.dropLast.length : Int) (mgD f M) M.length ≤ (G : Int))
    (hQ : ∀ Θ' r l2, OwT Θ (ixL a sg ml cl tk tkc sc on ot bf sp pc n1 f rsM rsC rb c0 c1 c2 c8 c9 (A ++ M) SP) Θ' (ixL a sg ml cl tk tkc sc on ot bf sp pc n1 f rsM rsC rb (if mgD f M = [] then c0 else adC c0 (A.length : Int)) c1 c2 c8 (apC c9 (SP.dropLast.length : Int) (M.length + nuE (mgD f M))) (sgE (mgD f M) r l2 (mLv M 0 + 1) (mgX f M) A) (spE (mgD f M) r M SP.dropLast)) → Q Θ') : w2_X7_merge ω d G a (A.length : Int) Θ Q := sorry
end MGE

/-! 78.am.lean.txt -/
/-! the index: the law of segments: their documents tell their words -/
set_option maxRecDepth 100000
def hitD (WV : Int → Wv) (t : List Int) (d : Int) : List Int := lkS (enD (WV d) d) t
theorem rdx_map {D : List Int} {g : Int → SgV} : rdx D.length (fun i => g (gt D (i : Int))) = D.map g := sorry
theorem lkS_mem : ∀ {W : SgV} {t : List Int} {x : Int}, x ∈ lkS W t → ∃ p, p ∈ W ∧ p.1 = t ∧ x ∈ p.2 := sorry
theorem rwD_map {WV : Int → Wv} {D : List Int} : rwD WV D = D.map (fun d => enD (WV d) d) := rdx_map (g := fun d => enD (WV d) d)
/-- what the words of documents are -/
theorem sgX_law {WV : Int → Wv} {D : List Int} (hok : ∀ k, k ∈ D → wvOk (WV k)) : SgC (sgX WV D) ∧ (∀ t, lkS (sgX WV D) t = D.flatMap (hitD WV t)) ∧ ∀ p, p ∈ sgX WV D → ∃ d, d ∈ D ∧ ∃ q, q ∈ enD (WV d) d ∧ q.1 = p.1 := sorry
theorem rdF_app {f : Int → Bool} {a b : List Int} : rdF f (a ++ b) = rdF f a ++ rdF f b := List.filter_append ..
theorem lkS_rdW {f : Int → Bool} : ∀ {W : SgV} {t : List Int}, lkS (rdW f W) t = rdF f (lkS W t) := sorry
theorem hitD_in {WV : Int → Wv} {t : List Int} {d : Int} (h : wvOk (WV d)) : ∀ x, x ∈ hitD WV t d → d * 16384 ≤ x ∧ x < (d + 1) * 16384 := sorry
theorem rdF_hit {WV : Int → Wv} {t : List Int} {f : Int → Bool} : ∀ {D : List Int}, (∀ k, k ∈ D → wvOk (WV k)) → rdF f (D.flatMap (hitD WV t)) = (lfD f D).flatMap (hitD WV t) := sorry
/-- a merge gives the words of the documents that are left -/
theorem mgX_law {WV : Int → Wv} {f : Int → Bool} {M : List SgE} (hW : ∀ i, i < M.length → mWf M i = sgX WV (mDs M i)) (hok : ∀ i, i < M.length → ∀ k, k ∈ mDs M i → wvOk (WV k)) : mgX f M = sgX WV (mgD f M) := sorry
/-- what holds of the words of documents in order -/
theorem sgX_ok {WV : Int → Wv} {D : List Int} (hok : ∀ k, k ∈ D → wvOk (WV k)) (hd : D.Pairwise (fun x y => x < y)) (hk : ∀ k, k ∈ D → 0 ≤ k ∧ k ≤ 1000000) (hl : len (encS (sgX WV D)) ≤ 1000000) : sgOk (sgX WV D) ∧ ∀ p, p ∈ sgX WV D → ∀ x, x ∈ p.2 → ∃ d, d ∈ D ∧ d * 16384 ≤ x ∧ x < (d + 1) * 16384 := sorry
/-! 78.an.lean.txt -/
/-! the index: as long as four segments are of one level they become one -/
set_option maxRecDepth 100000
set_option maxHeartbeats 4000000
theorem adC_le2 {c n : Int} (h0 : 0 ≤ c) (hn : 0 ≤ n) : adC c n ≤ max c (2 * n + 10) := sorry
theorem apC_le2 : ∀ {k : Nat} {c n : Int}, 0 ≤ c → 0 ≤ n → apC c n k ≤ max c (2 * (n + (k : Int)) + 10) := sorry
abbrev SgD2 : Type := Int × List Int
def absS (SG : List SgE) : List SgD2 := SG.map (fun x => (x.2.2.1, x.2.2.2.1))
/-- what is left of the last four's documents -/
def mgK (f : Int → Bool) (S : List SgD2) : List Int := lfD f ((S.drop (S.length - 4)).flatMap (fun x => x.2))
def mgS (f : Int → Bool) (S : List SgD2) : List SgD2 := S.take (S.length - 4) ++ (if mgK f S = [] then [] else [(((S.drop (S.length - 4)).headD (0, [])).1 + 1, mgK f S)])
def flS (f : Int → Bool) : Nat → List SgD2 → List SgD2
  | 0, S => S
  | n + 1, S => if fourB (S.map (fun x => x.1)) = true then flS f n (mgS f S) else S
/-- what it costs: the lists' capacities, how many spares -/
def flC (WV : Int → Wv) (f : Int → Bool) : Nat → List SgD2 → Int → Int → Nat → Int
  | 0, _, _, _, _ => 0
  | n + 1, S, c0, c9, ls => if fourB (S.map (fun x => x.1)) = true then (sgG (sgX WV (mgK f S)) + cpZ (mgK f S).length + (S.length : Int) + 40 + mgE c0 c9 ((S.length - 4 : Nat) : Int) ((ls - 1 : Nat) : Int) (mgK f S) 4) + flC WV f n (mgS f S) (if mgK f S = [] then c0 else adC c0 ((S.length - 4 : Nat) : Int)) (apC c9 ((ls - 1 : Nat) : Int) (4 + nuE (mgK f S))) (ls - 1 + (4 + nuE (mgK f S))) else 0
theorem sgG_nn {W : SgV} : 0 ≤ sgG W := sorry
theorem mgE_nn {c0 c9 la ls : Int} {D : List Int} {m : Nat} (h0 : 0 ≤ c0) (h9 : 0 ≤ c9) : 0 ≤ mgE c0 c9 la ls D m := sorry
theorem flC_nn {WV : Int → Wv} {f : Int → Bool} : ∀ {n : Nat} {S : List SgD2} {c0 c9 : Int} {ls : Nat}, 0 ≤ c0 → 0 ≤ c9 → 0 ≤ flC WV f n S c0 c9 ls := sorry
def dcA (SG : List SgE) : List Int := SG.flatMap (fun x => x.2.2.2.1)
/-- what holds of the segments -/
def IxW (WV : Int → Wv) (K : Int) (SG : List SgE) : Prop := (∀ x, x ∈ SG → x.2.2.2.2 = sgX WV x.2.2.2.1 ∧ 0 ≤ x.2.2.1 ∧ x.2.2.1 + (SG.length : Int) ≤ K) ∧ (dcA SG).Pairwise (fun x y => x < y) ∧ (∀ k, k ∈ dcA SG → 0 ≤ k ∧ k ≤ 1000000 ∧ wvOk (WV k)) ∧ (dcA SG).length ≤ 100000
theorem dcS_flat {M : List SgE} : ∀ n, n ≤ M.length → dcS (mDs M) n = dcA (M.take n) := sorry
theorem dcA_app {A B : List SgE} : dcA (A ++ B) = dcA A ++ dcA B := by unfold dcA; rw [List.flatMap_append]
theorem dcA_mem {SG : List SgE} {x : SgE} (h : x ∈ SG) : x.2.2.2.1.Sublist (dcA SG) := sorry
theorem mgD_flat {f : Int → Bool} {M : List SgE} : mgD f M = lfD f (dcA M) := sorry
section FLU
variable {ω : AO} {d G : Nat} {a sg ml cl tk tkc sc on ot bf sp pc n1 c1 c2 c8 : Int} {f : Int → Bool} {rsM rsC rb : List Int} {WV : Int → Wv} {K : Int}
theorem u_flush33 {Q : Th → Prop} (hd : 14 ≤ d) (hK : K ≤ 1000) : ∀ (N : Nat) (SG : List SgE) (SP : List SgR) (c0 c9 : Int) (g : Nat) (Θ : Th), SG.length ≤ N → OwS Θ (ixL a sg ml cl tk tkc sc on ot bf sp pc n1 f rsM rsC rb c0 c1 c2 c8 c9 SG SP) → IxW WV K SG → (∀ D, D.Sublist (dcA SG) → len (encS (sgX WV D)) ≤ 1000000) → (0 ≤ c0 ∧ c0 ≤ 100000) → (0 ≤ c9 ∧ c9 ≤ 300000) → SP.length + 2 * SG.length ≤ 100000 →
    (g : Int) + flC WV f N (absS SG) c0 c9 SP.length ≤ (G : Int) →
    (∀ Θ' SG' SP' c0' c9', OwT Θ (ixL a sg ml cl tk tkc sc on ot bf sp pc n1 f rsM rsC rb c0 c1 c2 c8 c9 SG SP) Θ' (ixL a sg ml cl tk tkc sc on ot bf sp pc n1 f rsM rsC rb c0' c1 c2 c8 c9' SG' SP') → absS SG' = flS f N (absS SG) → IxW WV K SG' → (dcA SG').Sublist (dcA SG) → (0 ≤ c0' ∧ c0' ≤ 100000) → (0 ≤ c9' ∧ c9' ≤ 300000) → SP'.length + 2 * SG'.length ≤ SP.length + 2 * SG.length → Q Θ') → W2_X7_flush_33 ω d G a g Θ Q := sorry
end FLU

/-! 78.ao.lean.txt -/
/-! the index: flush -/
set_option maxRecDepth 100000
theorem OwT.pfE {Θ Θ1 : Th} {L : List It} {n t : Nat} {a k v cc e : Int} {l : List Int} (h : OwS Θ L) (hn : L[n]? = some (obj a (t, l, cc, e))) (ht : 0 < t) (hp : Θ1 = pf Θ a k v) : OwT Θ L Θ1 (L.set n (obj a (t, l.set k.toNat v, cc, e))) := sorry
theorem pmF {A : Type} {v s x1 x2 x3 x4 x5 x6 x7 x8 b y : A} {T : List A} : (v :: s :: x1 :: x2 :: x3 :: x4 :: x5 :: x6 :: x7 :: x8 :: b :: y :: T).Perm (s :: b :: x1 :: x2 :: x3 :: x4 :: x5 :: x6 :: x7 :: x8 :: v :: y :: T) := sorry
section FLU2
variable {ω : AO} {d G : Nat} {a sg ml cl tk tkc sc on ot bf sp pc n1 c1 c2 c8 c0 c9 : Int} {f : Int → Bool} {rsM rsC rb bd : List Int} {WV : Int → Wv} {K : Int} {SG : List SgE} {SP : List SgR} {Θ : Th}
/-- what a flush makes of the levels and documents -/
def fuS (f : Int → Bool) (S : List SgD2) (bd : List Int) : List SgD2 := if bd = [] then flS f (S.length + 1) S else flS f (S.length + 1) (S ++ [(0, bd)])
def fuC (WV : Int → Wv) (f : Int → Bool) (S : List SgD2) (bd : List Int) (c0 c9 : Int) (ls : Nat) : Int := if bd = [] then flC WV f (S.length + 1) S c0 c9 ls else sgG (sgX WV bd) + 41 + (adC c0 (S.length : Int) - c0) + flC WV f (S.length + 1) (S ++ [(0, bd)]) (adC c0 (S.length : Int)) c9 (ls - 1)
theorem u_X7_flush {Q : Th → Prop} (hd : 15 ≤ d) (hO : OwS Θ (ixL a sg ml cl tk tkc sc on ot bf sp pc n1 f rsM rsC rb c0 c1 c2 c8 c9 SG SP)) (hbd : all2 (IntO Θ) rb bd) (hDoc : DocO Θ rsC bd WV) (hrl : len rsC ≤ 1000000) (hb12 : bd.length ≤ 12) (hK : K ≤ 999) (hK0 : 0 ≤ K) (hW : IxW WV K SG) (hpw : (dcA SG ++ bd).Pairwise (fun x y => x < y)) (hok : ∀ k, k ∈ bd → 0 ≤ k ∧ k ≤ 1000000 ∧ wvOk (WV k)) (hcnt : (dcA SG).length + bd.length ≤ 100000)
    (hBT : ∀ D, D.Sublist (dcA SG ++ bd) → len (encS (sgX WV D)) ≤ 1000000) (hc0 : 0 ≤ c0 ∧ c0 ≤ 100000) (hc9 : 0 ≤ c9 ∧ c9 ≤ 300000) (hSP : SP.length + 2 * SG.length + 2 ≤ 99000)
    (hG : fuC WV f (absS SG) bd c0 c9 SP.length ≤ (G : Int))
    (hQ : ∀ Θ' SG' SP' c0' c9' bf' rb' c8', OwT Θ (ixL a sg ml cl tk tkc sc on ot bf sp pc n1 f rsM rsC rb c0 c1 c2 c8 c9 SG SP) Θ' (ixL a sg ml cl tk tkc sc on ot bf' sp pc n1 f rsM rsC rb' c0' c1 c2 c8' c9' SG' SP') → (rb' = [] ∧ (c8' = c8 ∨ c8' = 0)) → absS SG' = fuS f (absS SG) bd → IxW WV (K + 1) SG' → (dcA SG').Sublist (dcA SG ++ bd) → (0 ≤ c0' ∧ c0' ≤ 100000) → (0 ≤ c9' ∧ c9' ≤ 300000) → SP'.length + 2 * SG'.length ≤ SP.length + 2 * SG.length + 2 → Q Θ') : w2_X7_flush ω d G a Θ Q := sorry
end FLU2

/-! 78.ap.lean.txt -/
/-! the index: a document is taken; the mails of hits -/
set_option maxRecDepth 100000
theorem all2_del {α : Type} {P : Int → α → Prop} {rs : List Int} {xs : List α} {k : Nat} (h : all2 P rs xs) : all2 P (del rs (k : Int)) (xs.take k ++ xs.drop (k + 1)) := sorry
def rmD (k : Int) (D : List Int) : List Int := D.filter (fun x => decide (x ≠ k))
theorem rmD_snoc {k x : Int} {D : List Int} : rmD k (D ++ [x]) = if x = k then rmD k D else rmD k D ++ [x] := sorry
section TKE
variable {ω : AO} {d G : Nat} {a sg ml cl tk tkc sc on ot bf sp pc n1 c0 c1 c2 c8 c9 m dn : Int} {f : Int → Bool} {rsM rsC rb bd F : List Int} {SG : List SgE} {SP : List SgR} {Θ : Th}
theorem u_take28 {Q : Th → Prop} (hd : 3 ≤ d) (hdn : inI dn) (hl1 : bd.length ≤ 1000000) : ∀ (k : Nat) (rb bd1 : List Int) (g : Nat) (Θ : Th), OwS Θ (obj m (29, F, 0, 0) :: ixL a sg ml cl tk tkc sc on ot bf sp pc n1 f rsM rsC rb c0 c1 c2 c8 c9 SG SP) → all2 (IntO Θ) rb bd1 → k ≤ bd1.length → bd1.length ≤ 1000000 → rmD dn (bd1.take k) ++ bd1.drop k = rmD dn bd → g ≤ G →
    (∀ Θ' rb', OwT Θ (obj m (29, F, 0, 0) :: ixL a sg ml cl tk tkc sc on ot bf sp pc n1 f rsM rsC rb c0 c1 c2 c8 c9 SG SP) Θ' (obj m (29, F, 0, 0) :: ixL a sg ml cl tk tkc sc on ot bf sp pc n1 f rsM rsC rb' c0 c1 c2 c8 c9 SG SP) → all2 (IntO Θ') rb' (rmD dn bd) → Q Θ') → W2_X7_take_28 ω d G a dn ((k : Int) - 1) g Θ Q := sorry
theorem u_X7_take {Q : Th → Prop} (hd : 5 ≤ d) (hO : OwS Θ (obj m (29, F, 0, 0) :: ixL a sg ml cl tk tkc sc on ot bf sp pc n1 f rsM rsC rb c0 c1 c2 c8 c9 SG SP)) (hb : all2 (IntO Θ) rb bd) (hl : bd.length ≤ 1000000) (h9 : gt F 9 = dn) (hdn : 0 ≤ dn ∧ dn ≤ 1000000) (hn1 : n1 ≤ 1000000) (hG : bmG n1 (dn / 64 + 1) ≤ (G : Int))
    (hQ : ∀ Θ' rb' tkc', OwT Θ (obj m (29, F, 0, 0) :: ixL a sg ml cl tk tkc sc on ot bf sp pc n1 f rsM rsC rb c0 c1 c2 c8 c9 SG SP) Θ' (obj m (29, F.set 9 (-1), 0, 0) :: ixL a sg ml cl tk tkc' sc on ot bf sp pc (bmN n1 (dn / 64 + 1)) (fun j => f j || decide (j = dn)) rsM rsC rb' c0 c1 c2 c8 c9 SG SP) → all2 (IntO Θ') rb' (rmD dn bd) → Q Θ') : w2_X7_take ω d G a m Θ Q := sorry
end TKE
section MOF
variable {ω : AO} {d G : Nat} {Θ : Th} {a h to toc nt ch eh c1 e1 B : Int} {F l rsM : List Int} {num : Int → Int} {g0 : Int → Bool}
/-- the mails that hits are in -/
def mOf (num : Int → Int) (g : Int → Bool) (l : List Int) : Int → Bool := fun j => g j || l.any (fun x => decide (j = num (x / 16384)))
theorem mOf_nil {num : Int → Int} {g : Int → Bool} : mOf num g [] = g := by funext j; exact Bool.or_false _
theorem mOf_cons {num : Int → Int} {g : Int → Bool} {x : Int} {l : List Int} : mOf num g (x :: l) = mOf num (fun j => g j || decide (j = num (x / 16384))) l := sorry
theorem bmN_in {n k B : Int} (hn : 4 ≤ n) (hk : k ≤ B) (h0 : 0 ≤ k) : n ≤ bmN n k ∧ bmN n k ≤ max n (2 * max n B) ∧ bmG n k ≤ bmN n k - n ∧ 0 ≤ bmG n k := sorry
theorem u_X7_mailsOf {Q : Th → Prop} (hd : 4 ≤ d) (ha : xo Θ a = (21, F, 0, 0)) (hml : xo Θ (gt F 1) = (3, rsM, c1, e1)) (hh : xo Θ h = (23, l, ch, eh)) (hB : ∀ x, x ∈ l → 0 ≤ x ∧ x / 16384 < len rsM ∧ ∃ MF, xo Θ (gt rsM (x / 16384)) = (29, MF, 0, 0) ∧ gt MF 0 = num (x / 16384) ∧ 0 ≤ num (x / 16384) ∧ num (x / 16384) < 64 * nt) (hto : BtO Θ to toc nt g0) (hnt : 0 ≤ nt ∧ nt ≤ 10000) (hll : len l ≤ 1000000)
    (hQ : ∀ Θ' toc', GrX (exB to toc) Θ Θ' → (toc' = toc ∨ kd Θ toc' = 0) → BtO Θ' to toc' nt (mOf num g0 l) → Q Θ') : w2_X7_mailsOf ω d G a h to Θ Q := sorry
end MOF

/-! 78.aq.lean.txt -/
/-! the index: a mail comes -/
set_option maxRecDepth 100000
def pcSm (fd : List FdV) : Int := (fd.map (fun v => v.2.2.1)).sum
theorem u_X45_many {ω : AO} {d G : Nat} {Θ : Th} {r : Int} {v : FdV} {Q : Int → Th → Prop} (h : FdX Θ r v) (hQ : Q v.2.2.1 Θ) : w2_X45_many ω d G r Θ Q := sorry
section ADD
variable {ω : AO} {d G : Nat} {a sg ml cl tk tkc sc on ot bf sp pc n1 c0 c1 c2 c8 c9 m ct : Int} {f : Int → Bool} {rsM rsC rb bd F l : List Int} {SG : List SgE} {SP : List SgR} {Θ : Th} {WV : Int → Wv} {K : Int}
/-- the pieces are counted -/
theorem u_add36 {Q : Th → Prop} {dn : Int} {g0 : Nat} (hg0 : g0 ≤ G) (hd : 5 ≤ d) (h3 : gt F 3 = ct) (hpc : 0 ≤ pc ∧ pc ≤ 1000000000) (hfd : ∀ v, v ∈ ctFd l → 0 ≤ v.2.2.1 ∧ v.2.2.1 ≤ 100000)
    (hQ : ∀ Θ' (g : Nat), OwT Θ (obj m (29, F, 0, 0) :: ixL a sg ml cl tk tkc sc on ot bf sp pc n1 f rsM rsC rb c0 c1 c2 c8 c9 SG SP) Θ' (obj m (29, F, 0, 0) :: ixL a sg ml cl tk tkc sc on ot bf sp (pc + pcSm (ctFd l)) n1 f rsM rsC rb c0 c1 c2 c8 c9 SG SP) → g ≤ g0 → W2_X7_add_36 ω d G a m dn 5 g Θ' Q) (hO : OwS Θ (obj m (29, F, 0, 0) :: ixL a sg ml cl tk tkc sc on ot bf sp pc n1 f rsM rsC rb c0 c1 c2 c8 c9 SG SP)) (hct : CtO Θ ct l) :
    ∀ (N k : Nat) (pc1 : Int) (g : Nat) (Θ1 : Th), 5 - k = N → k ≤ 5 → OwT Θ (obj m (29, F, 0, 0) :: ixL a sg ml cl tk tkc sc on ot bf sp pc n1 f rsM rsC rb c0 c1 c2 c8 c9 SG SP) Θ1 (obj m (29, F, 0, 0) :: ixL a sg ml cl tk tkc sc on ot bf sp pc1 n1 f rsM rsC rb c0 c1 c2 c8 c9 SG SP) → pc1 + pcSm ((ctFd l).drop k) = pc + pcSm (ctFd l) → 0 ≤ pc1 → pc1 ≤ 1000000000 + 100000 * (k : Int) → g ≤ g0 → W2_X7_add_36 ω d G a m dn (k : Int) g Θ1 Q := sorry
theorem u_X7_add {Q : Th → Prop} (hd : 18 ≤ d) (hO : OwS Θ (obj m (29, F, 0, 0) :: ixL a sg ml cl tk tkc sc on ot bf sp pc n1 f rsM rsC rb c0 c1 c2 c8 c9 SG SP)) (h3 : gt F 3 = ct) (hct : CtO Θ ct l) (hpc : 0 ≤ pc ∧ pc ≤ 1000000000) (hfd : ∀ v, v ∈ ctFd l → 0 ≤ v.2.2.1 ∧ v.2.2.1 ≤ 100000)
    (hbd : all2 (IntO Θ) rb bd) (hDoc : DocO Θ rsC bd WV) (hMC : rsM.length = rsC.length) (hrl : len rsC ≤ 99999) (hb12 : bd.length ≤ 11) (hWl : WV (len rsC) = woF (VSo (ctFd l))) (hwo : wvOk (WV (len rsC))) (hK : 0 ≤ K ∧ K ≤ 999) (hW : IxW WV K SG) (hpw : (dcA SG ++ bd).Pairwise (fun x y => x < y)) (hlt : ∀ k, k ∈ dcA SG ++ bd → k < len rsC) (hok : ∀ k, k ∈ bd → 0 ≤ k ∧ k ≤ 1000000 ∧ wvOk (WV k)) (hcnt : (dcA SG).length + bd.length + 1 ≤ 100000)
    (hBT : ∀ D, D.Sublist (dcA SG ++ (bd ++ [len rsC])) → len (encS (sgX WV D)) ≤ 1000000) (hc0 : 0 ≤ c0 ∧ c0 ≤ 100000) (hc9 : 0 ≤ c9 ∧ c9 ≤ 300000) (hSP : SP.length + 2 * SG.length + 2 ≤ 99000)
    (hc1 : 0 ≤ c1 ∧ c1 ≤ 10000000) (hc2 : 0 ≤ c2 ∧ c2 ≤ 10000000) (hc8 : 0 ≤ c8 ∧ c8 ≤ 10000000)
    (hG : (adC c1 (len rsM) - c1) + (adC c2 (len rsC) - c2) + 1 + (adC c8 (bd.length : Int) - c8) + (if bd.length = 11 then fuC WV f (absS SG) (bd ++ [len rsC]) c0 c9 SP.length else 0) ≤ (G : Int))
    (hQ1 : bd.length ≠ 11 → ∀ Θ' r, OwT Θ (obj m (29, F, 0, 0) :: ixL a sg ml cl tk tkc sc on ot bf sp pc n1 f rsM rsC rb c0 c1 c2 c8 c9 SG SP) Θ' (obj m (29, F.set 9 (len rsM), 0, 0) :: ixL a sg ml cl tk tkc sc on ot bf sp (pc + pcSm (ctFd l)) n1 f (rsM ++ [m]) (rsC ++ [ct]) (rb ++ [r]) c0 (adC c1 (len rsM)) (adC c2 (len rsC)) (adC c8 (bd.length : Int)) c9 SG SP) → all2 (IntO Θ') (rb ++ [r]) (bd ++ [len rsM]) → Q Θ')
    (hQ2 : bd.length = 11 → ∀ Θ' SG' SP' c0' c9' bf' c8', OwT Θ (obj m (29, F, 0, 0) :: ixL a sg ml cl tk tkc sc on ot bf sp pc n1 f rsM rsC rb c0 c1 c2 c8 c9 SG SP) Θ' (obj m (29, F.set 9 (len rsM), 0, 0) :: ixL a sg ml cl tk tkc sc on ot bf' sp (pc + pcSm (ctFd l)) n1 f (rsM ++ [m]) (rsC ++ [ct]) [] c0' (adC c1 (len rsM)) (adC c2 (len rsC)) c8' c9' SG' SP') → (c8' = adC c8 (bd.length : Int) ∨ c8' = 0) → absS SG' = fuS f (absS SG) (bd ++ [len rsC]) → IxW WV (K + 1) SG' → (dcA SG').Sublist (dcA SG ++ (bd ++ [len rsC])) → (0 ≤ c0' ∧ c0' ≤ 100000) → (0 ≤ c9' ∧ c9' ≤ 300000) → SP'.length + 2 * SG'.length ≤ SP.length + 2 * SG.length + 2 → Q Θ') : w2_X7_add ω d G a m Θ Q := sorry
end ADD

/-! 78.ar.lean.txt -/
/-! the index: it is made; what is kept though some of it is altered -/
set_option maxRecDepth 100000
section MKP
variable {Θ Θ1 : Th} {a v cc e : Int} {L L' : List It} {n : Nat} {rs : List Int}
theorem MKI.perm (h : MKI Θ a Θ1 L) (p : L.Perm L') : MKI Θ a Θ1 L' := sorry
theorem MKI.ls (h : MKI Θ a Θ1 L) (hn : L[n]? = some (obj v (3, rs, cc, e))) : MKI Θ a Θ1 (L.set n (lsI v rs cc)) := sorry
theorem MKI.hi (h : MKI Θ a Θ1 L) (hn : L[n]? = some (obj v (23, [], 8, 0))) : MKI Θ a Θ1 (L.set n (hiI v)) := sorry
end MKP
section KPO
variable {Θ Θ1 : Th} {L : List It} {ex : Int → Prop} {n m : Nat} {x w : It}
/-- what is altered still holds what it held -/
theorem OwT.kp (h : OwS Θ L) (g : GrX ex Θ Θ1) (he : ∀ z, ex z → 0 < kd Θ z → z ∈ fpr L) (hx : ∀ x, x ∈ L → x.2 Θ1 ∨ ∀ z, z ∈ x.1 → ¬ ex z) : OwT Θ L Θ1 L := sorry
theorem OwT.kp2 (h : OwS Θ L) (hn : L[n]? = some x) (hm : L[m]? = some w) (g : GrX ex Θ Θ1) (he : ∀ z, ex z → 0 < kd Θ z → z ∈ x.1 ∨ z ∈ w.1) (h1 : x.2 Θ1) (h2 : w.2 Θ1) : OwT Θ L Θ1 L := sorry
theorem OwT.kp1 (h : OwS Θ L) (hn : L[n]? = some x) (g : GrX ex Θ Θ1) (he : ∀ z, ex z → 0 < kd Θ z → z ∈ x.1) (h1 : x.2 Θ1) : OwT Θ L Θ1 L := sorry
end KPO
section IXI
variable {ω : AO} {d G : Nat} {Θ : Th} {a : Int}
theorem u_X7_init {Q : Th → Prop} (hd : 5 ≤ d) (h : xo Θ a = (21, [-1, -1, -1, -1, -1, -1, -1, 0, -1, -1], 0, 0)) (hf : ¬ fz Θ a) (hG : 20 ≤ G)
    (hQ : ∀ Θ' sg ml cl tk tkc sc on ot bf sp, MKI Θ a Θ' (ixL a sg ml cl tk tkc sc on ot bf sp 0 4 (fun _ => false) [] [] [] 0 0 0 0 0 [] []) → Q Θ') : w2_X7_init ω d G a Θ Q := sorry
end IXI

/-! 78.as.lean.txt -/
/-! the index: the hits of a word, of all documents that are not taken -/
set_option maxRecDepth 100000
theorem lbK_of {ks : List (List Int)} {i : Nat} {t : List Int} (hs : SrtK ks) (hi : ks[i]? = some t) : lbK ks t = i := sorry
theorem SrW.k {W : SgV} (h : SrW W) : SrtK (W.map (fun p => p.1)) := List.pairwise_map.mpr h
theorem lkS_hit : ∀ {W : SgV}, SrW W → ∀ p, p ∈ W → lkS W p.1 = p.2 := sorry
theorem lkS_non {W : SgV} {t : List Int} (h : ∀ p, p ∈ W → p.1 ≠ t) : lkS W t = [] := sorry
theorem lkS_lb {W : SgV} {t : List Int} (h : SrW W) : (W.length ≤ lbK (W.map (fun p => p.1)) t → lkS W t = []) ∧ ∀ p, W[lbK (W.map (fun p => p.1)) t]? = some p → lkS W t = if p.1 = t then p.2 else [] := sorry
/-- documents that are not taken, in order -/
def lvD (f : Int → Bool) (SG : List SgE) (bd : List Int) : List Int := lfD f (dcA SG) ++ bd
/-- the hits that segments tell -/
def sgC (f : Int → Bool) (SG : List SgE) (t : List Int) : List Int := SG.flatMap (fun x => rdF f (lkS x.2.2.2.2 t))
theorem sgC_law {WV : Int → Wv} {f : Int → Bool} {t : List Int} : ∀ {SG : List SgE}, (∀ x, x ∈ SG → x.2.2.2.2 = sgX WV x.2.2.2.1) → (∀ k, k ∈ dcA SG → wvOk (WV k)) → sgC f SG t = (lfD f (dcA SG)).flatMap (hitD WV t) := sorry
section COL
variable {ω : AO} {d G : Nat} {Θ0 : Th} {a q h e8 c2 e2 c8 ch eh : Int} {F rb bd rsC l0 t : List Int} {WV : Int → Wv} {g0 : Nat}
theorem u_col95 {Q : Th → Prop} (hd : 8 ≤ d) (ha : xo Θ0 a = (21, F, 0, 0)) (hb : xo Θ0 (gt F 8) = (3, rb, c8, e8)) (hbd : all2 (IntO Θ0) rb bd) (hc : xo Θ0 (gt F 2) = (3, rsC, c2, e2)) (hDoc : DocO Θ0 rsC bd WV) (hok : ∀ k, k ∈ bd → 0 ≤ k ∧ k ≤ 1000000 ∧ wvOk (WV k)) (hq : Str Θ0 q t) (hh : xo Θ0 h = (23, l0, ch, eh)) (fh : ¬ fz Θ0 h) (hcap : 8 ≤ ch ∧ len l0 ≤ ch ∧ ch ≤ 2000000) (htot : len l0 + len (bd.flatMap (hitD WV t)) ≤ 500000) (hbl : bd.length ≤ 1000000)
    (hG : (g0 : Int) + (max ch (2 * (len l0 + len (bd.flatMap (hitD WV t)))) - ch) ≤ (G : Int))
    (hQ : ∀ Θ' c', GrX (· = h) Θ0 Θ' → xo Θ' h = (23, l0 ++ bd.flatMap (hitD WV t), c', eh) → ¬ fz Θ' h → ch ≤ c' → c' ≤ max ch (2 * (len l0 + len (bd.flatMap (hitD WV t)))) → len (l0 ++ bd.flatMap (hitD WV t)) ≤ c' → Q Θ') :
    ∀ (N k : Nat) (lo : List Int) (co : Int) (g : Nat) (Θ1 : Th), bd.length - k = N → k ≤ bd.length → GrX (· = h) Θ0 Θ1 → xo Θ1 h = (23, lo, co, eh) → ¬ fz Θ1 h → lo = l0 ++ (bd.take k).flatMap (hitD WV t) → ch ≤ co → co ≤ max ch (2 * len lo) → len lo ≤ co → (g : Int) ≤ g0 + (co - ch) → W2_X7_collect_95 ω d G a q h (k : Int) g Θ1 Q := sorry
end COL

/-! 78.at.lean.txt -/
/-! the index: collect -/
set_option maxRecDepth 100000
abbrev exCl (h : Int) (SG : List SgE) : Int → Prop := fun z => z = h ∨ ∃ x, x ∈ SG ∧ z = x.1.2.2.2.2
section COX
variable {ω : AO} {d G : Nat} {Θ Θ0 : Th} {a sg ml cl tk tkc sc on ot bf sp pc n1 c0 c1 c2 c8 c9 q h : Int} {f : Int → Bool} {rsM rsC rb bd t : List Int} {SG : List SgE} {SP : List SgR} {WV : Int → Wv} {K : Int} {n : Nat}
theorem sgX_fit {x : SgE} (hW : IxW WV K SG) (hBT : ∀ D, D.Sublist (dcA SG) → len (encS (sgX WV D)) ≤ 1000000) (hx : x ∈ SG) : x.2.2.2.2 = sgX WV x.2.2.2.1 ∧ sgOk x.2.2.2.2 := sorry
theorem sgC_take {k : Nat} {x : SgE} (hk : SG[k]? = some x) : sgC f (SG.take (k + 1)) t = sgC f (SG.take k) t ++ rdF f (lkS x.2.2.2.2 t) := sorry
theorem u_col7 {Q : Th → Prop} {L : List It} (hL : L = ixL a sg ml cl tk tkc sc on ot bf sp pc n1 f rsM rsC rb c0 c1 c2 c8 c9 SG SP) (hd : 8 ≤ d) (hO : OwS Θ0 L) (hn : L[n]? = some (hiI h)) (hn7 : 5 ≤ n ∧ n ≤ 7) (hq : Str Θ0 q t) (hW : IxW WV K SG) (hBT : ∀ D, D.Sublist (dcA SG) → len (encS (sgX WV D)) ≤ 1000000)
    {ch eh : Int} {g0 : Nat} (hh0 : kd Θ0 h = 23) (hcap : 8 ≤ ch ∧ ch ≤ 2000000) (hSl : SG.length ≤ 1000000) (htot : len (sgC f SG t) ≤ 500000)
    (hG : (g0 : Int) + (max ch (2 * len (sgC f SG t)) - ch) ≤ (G : Int))
    (hQ : ∀ Θ' c' (g : Nat), GrX (exCl h SG) Θ0 Θ' → OwT Θ0 L Θ' L → xo Θ' h = (23, sgC f SG t, c', eh) → ¬ fz Θ' h → ch ≤ c' → c' ≤ max ch (2 * len (sgC f SG t)) → len (sgC f SG t) ≤ c' → (g : Int) ≤ g0 + (c' - ch) → W2_X7_collect_95 ω d G a q h 0 g Θ' Q) :
    ∀ (N k : Nat) (lo : List Int) (co : Int) (g : Nat) (Θ1 : Th), SG.length - k = N → k ≤ SG.length → GrX (exCl h SG) Θ0 Θ1 → OwT Θ0 L Θ1 L → xo Θ1 h = (23, lo, co, eh) → ¬ fz Θ1 h → lo = sgC f (SG.take k) t → ch ≤ co → co ≤ max ch (2 * len lo) → len lo ≤ co → (g : Int) ≤ g0 + (co - ch) → W2_X7_collect_7 ω d G a q h (k : Int) g Θ1 Q := sorry
/-- the hits of a word, of the documents that are not taken -/
def colX (WV : Int → Wv) (f : Int → Bool) (SG : List SgE) (bd t : List Int) : List Int := (lvD f SG bd).flatMap (hitD WV t)
theorem u_X7_collect {Q : Th → Prop} {L : List It} (hL : L = ixL a sg ml cl tk tkc sc on ot bf sp pc n1 f rsM rsC rb c0 c1 c2 c8 c9 SG SP) (hd : 8 ≤ d) (hO : OwS Θ L) (hn : L[n]? = some (hiI h)) (hn7 : 5 ≤ n ∧ n ≤ 7) (hq : Str Θ q t) (hW : IxW WV K SG) (hBT : ∀ D, D.Sublist (dcA SG) → len (encS (sgX WV D)) ≤ 1000000)
    (hbd : all2 (IntO Θ) rb bd) (hDoc : DocO Θ rsC bd WV) (hok : ∀ k, k ∈ bd → 0 ≤ k ∧ k ≤ 1000000 ∧ wvOk (WV k)) (hSl : SG.length ≤ 1000000) (hbl : bd.length ≤ 1000000) (htot : len (colX WV f SG bd t) ≤ 500000) (hG : 2 * len (colX WV f SG bd t) ≤ (G : Int))
    (hQ : ∀ Θ' c' e', GrX (exCl h SG) Θ Θ' → OwT Θ L Θ' L → xo Θ' h = (23, colX WV f SG bd t, c', e') → Q Θ') : w2_X7_collect ω d G a q h Θ Q := sorry
end COX

/-! 78.au.lean.txt -/
/-! the index: what is read of it; stem -/
set_option maxRecDepth 100000
theorem OwT.fr1 {Θ Θ1 : Th} {L L1 : List It} {x : It} (h0 : OwS Θ (x :: L)) (h : OwT Θ L Θ1 L1) : OwT Θ (x :: L) Θ1 (x :: L1) := sorry
/-- hits of documents in order -/
theorem hits_srt {WV : Int → Wv} {t : List Int} : ∀ {D : List Int}, (∀ k, k ∈ D → wvOk (WV k)) → D.Pairwise (fun x y => x < y) → (D.flatMap (hitD WV t)).Pairwise (fun x y => x < y) ∧ ∀ x, x ∈ D.flatMap (hitD WV t) → ∃ d, d ∈ D ∧ d * 16384 ≤ x ∧ x < (d + 1) * 16384 := sorry
/-- what is known when the index is read -/
def IxR (Θ : Th) (WV : Int → Wv) (K : Int) (SG : List SgE) (rb bd rsC : List Int) : Prop := IxW WV K SG ∧ (∀ D, D.Sublist (dcA SG) → len (encS (sgX WV D)) ≤ 1000000) ∧ all2 (IntO Θ) rb bd ∧ DocO Θ rsC bd WV ∧ (∀ k, k ∈ bd → 0 ≤ k ∧ k ≤ 1000000 ∧ wvOk (WV k)) ∧ SG.length ≤ 1000000 ∧ bd.length ≤ 1000000 ∧ (dcA SG ++ bd).Pairwise (fun x y => x < y)
theorem DocO.le {Θ Θ1 : Th} {rsC bd : List Int} {WV : Int → Wv} (h : DocO Θ rsC bd WV) (L : Le Θ Θ1) : DocO Θ1 rsC bd WV := sorry
theorem IxR.le {Θ Θ1 : Th} {WV : Int → Wv} {K : Int} {SG : List SgE} {rb bd rsC : List Int} (h : IxR Θ WV K SG rb bd rsC) (L : Le Θ Θ1) : IxR Θ1 WV K SG rb bd rsC := sorry
/-- the documents that are not taken -/
theorem IxR.lv {Θ : Th} {WV : Int → Wv} {K : Int} {SG : List SgE} {rb bd rsC : List Int} (h : IxR Θ WV K SG rb bd rsC) (f : Int → Bool) : (lvD f SG bd).Pairwise (fun x y => x < y) ∧ ∀ k, k ∈ lvD f SG bd → 0 ≤ k ∧ k ≤ 1000000 ∧ wvOk (WV k) := sorry
/-- the mails of documents -/
def MlR (Θ : Th) (rsM live : List Int) (num : Int → Int) (nt : Int) : Prop := ∀ k, k ∈ live → k < len rsM ∧ ∃ MF, xo Θ (gt rsM k) = (29, MF, 0, 0) ∧ gt MF 0 = num k ∧ 0 ≤ num k ∧ num k < 64 * nt
theorem MlR.keep {Θ Θ1 : Th} {ex : Int → Prop} {rsM live : List Int} {num : Int → Int} {nt : Int} (h : MlR Θ rsM live num nt) (g : GrX ex Θ Θ1) (hk : ∀ z, ex z → kd Θ z ≠ 29) : MlR Θ1 rsM live num nt := sorry
/-- the mails in which a word is -/
def stmF (WV : Int → Wv) (live : List Int) (num : Int → Int) (t : List Int) (g : Int → Bool) : Int → Bool := fun j => g j || live.any (fun d => !(hitD WV t d).isEmpty && decide (j = num d))
theorem mOf_law {WV : Int → Wv} {live : List Int} {num : Int → Int} {g : Int → Bool} {t : List Int} (hok : ∀ k, k ∈ live → wvOk (WV k)) : mOf num g (live.flatMap (hitD WV t)) = stmF WV live num t g := sorry
section STM
variable {ω : AO} {d G : Nat} {Θ Θ0 : Th} {a sg ml cl tk tkc sc on ot bf sp pc n1 c0 c1 c2 c8 c9 q h to toc nt fd w : Int} {f g0 : Int → Bool} {rsM rsC rb bd t ww : List Int} {SG : List SgE} {SP : List SgR} {WV : Int → Wv} {K : Int} {n : Nat} {num : Int → Int}
theorem exCl_not {L : List It} (hL : L = ixL a sg ml cl tk tkc sc on ot bf sp pc n1 f rsM rsC rb c0 c1 c2 c8 c9 SG SP) (hO : OwS Θ L) {n m : Nat} {y : It} (hn : L[n]? = some y) (hm : L[m]? = some (hiI h)) (hne : n ≠ m) (h10 : n < 10) : ∀ z, z ∈ y.1 → ¬ exCl h SG z := sorry
theorem exCl_kd {L : List It} (hL : L = ixL a sg ml cl tk tkc sc on ot bf sp pc n1 f rsM rsC rb c0 c1 c2 c8 c9 SG SP) (hO : OwS Θ L) {m : Nat} (hm : L[m]? = some (hiI h)) : ∀ z, exCl h SG z → kd Θ z = 23 ∨ kd Θ z = 56 := sorry
/-- hits to mails -/
theorem u_toMails {Q : Th → Prop} {L : List It} {l : List Int} {ch eh : Int} (hL : L = ixL a sg ml cl tk tkc sc on ot bf sp pc n1 f rsM rsC rb c0 c1 c2 c8 c9 SG SP) (hd : 4 ≤ d) (hO : OwS Θ (btI to toc nt g0 :: L)) (hh : xo Θ h = (23, l, ch, eh)) (hB : ∀ x, x ∈ l → 0 ≤ x ∧ x / 16384 ∈ lvD f SG bd) (hl : len l ≤ 1000000) (hM : MlR Θ rsM (lvD f SG bd) num nt) (hnt : 0 ≤ nt ∧ nt ≤ 10000)
    (hQ : ∀ Θ' toc', OwT Θ (btI to toc nt g0 :: L) Θ' (btI to toc' nt (mOf num g0 l) :: L) → Q Θ') : w2_X7_mailsOf ω d G a h to Θ Q := sorry
theorem u_X7_stem {Q : Th → Prop} {L : List It} (hL : L = ixL a sg ml cl tk tkc sc on ot bf sp pc n1 f rsM rsC rb c0 c1 c2 c8 c9 SG SP) (hd : 12 ≤ d) (hO : OwS Θ (btI to toc nt g0 :: L)) (hR : IxR Θ WV K SG rb bd rsC) (hw : Str Θ w ww) (hfd : 0 ≤ fd ∧ fd < 10) (hww : len ww ≤ 100000) (htot : len (colX WV f SG bd ([115] ++ [48 + fd] ++ ww)) ≤ 500000) (hM : MlR Θ rsM (lvD f SG bd) num nt) (hnt : 0 ≤ nt ∧ nt ≤ 10000)
    (hG : 5 * len ww + 40 + 2 * len (colX WV f SG bd ([115] ++ [48 + fd] ++ ww)) ≤ (G : Int))
    (hQ : ∀ Θ' toc', OwT Θ (btI to toc nt g0 :: L) Θ' (btI to toc' nt (stmF WV (lvD f SG bd) num ([115] ++ [48 + fd] ++ ww) g0) :: L) → Q Θ') : w2_X7_stem ω d G a fd w to Θ Q := sorry
end STM

/-! 78.av.lean.txt -/
/-! the index: phrase -/
set_option maxRecDepth 100000
/-- those of a row whose neighbour was there -/
def phT (A S : List Int) : List Int := S.filter (fun v => decide (0 < v % 16384) && A.contains (v - 1))
def phN (col : List Int → List Int) : List Int → List (List Int) → List Int
  | A, [] => A
  | A, w :: r => if A = [] then A else phN col (phT A (col w)) r
def phG (col : List Int → List Int) : List (List Int) → Int
  | [] => 0
  | w :: r => 5 * len w + 40 + 4 * len (col w) + phG col r
theorem phG_nn {col : List Int → List Int} : ∀ {l : List (List Int)}, 0 ≤ phG col l := sorry
theorem stl_pw {l : List Int} (h : l.Pairwise (fun x y => x < y)) : StL l := sorry
theorem rwC_inn {c n : Int} (h : 8 ≤ c ∧ 0 ≤ n ∧ n ≤ c) : c ≤ rwC c n ∧ n + 1 ≤ rwC c n ∧ rwC c n ≤ max c (2 * (n + 1)) ∧ rwK c n ≤ rwC c n - c ∧ 0 ≤ rwK c n := sorry
section PHR
variable {ω : AO} {d G : Nat} {Θ Θ0 : Th} {a sg ml cl tk tkc sc on ot bf sp pc n1 c0 c1 c2 c8 c9 q h to toc nt fd w : Int} {f g0 : Int → Bool} {rsM rsC rb bd t ww : List Int} {SG : List SgE} {SP : List SgR} {WV : Int → Wv} {K : Int} {n : Nat} {num : Int → Int}
theorem u_ph116 {Q : Th → Prop} {l2 l4 l5 l6 cs es ca ea c5 e5 : Int} {F S A : List Int} {gg : Nat} (hd : 4 ≤ d) (ha : xo Θ0 a = (21, F, 0, 0)) (hF4 : gt F 4 = sc) (hs : xo Θ0 sc = (23, S, cs, es)) (hA : xo Θ0 l4 = (23, A, ca, ea)) (hca : ca ≤ 60000000) (hAs : StL A) (hSb : ∀ x, x ∈ S → 0 ≤ x ∧ x < 9000000000000000000) (h5 : xo Θ0 l5 = (23, [], c5, e5)) (f5 : ¬ fz Θ0 l5) (hc5 : 8 ≤ c5 ∧ c5 ≤ 2000000) (n54 : l4 ≠ l5) (n5s : sc ≠ l5) (hl : len S ≤ 500000)
    (hG : (gg : Int) + (max c5 (2 * len S) - c5) ≤ (G : Int))
    (hQ : ∀ Θ' c' (g : Nat), GrX (· = l5) Θ0 Θ' → xo Θ' l5 = (23, phT A S, c', e5) → ¬ fz Θ' l5 → 8 ≤ c' → len (phT A S) ≤ c' → c' ≤ 2000000 → (g : Int) ≤ gg + 2 * len S → g ≤ G → W2_X7_phrase_51 ω d G a fd l2 to l5 l4 (l6 + 1) g Θ' Q) :
    ∀ (N k : Nat) (lo : List Int) (co : Int) (g : Nat) (Θ1 : Th), S.length - k = N → k ≤ S.length → GrX (· = l5) Θ0 Θ1 → xo Θ1 l5 = (23, lo, co, e5) → ¬ fz Θ1 l5 → lo = phT A (S.take k) → len lo ≤ (k : Int) → c5 ≤ co → co ≤ max c5 (2 * len lo) → len lo ≤ co → (g : Int) ≤ gg + (co - c5) → W2_X7_phrase_116 ω d G a fd l2 to l4 l5 l6 (k : Int) g Θ1 Q := sorry
abbrev exPh (sc on ot : Int) (SG : List SgE) : Int → Prop := fun z => z = sc ∨ z = on ∨ z = ot ∨ ∃ x, x ∈ SG ∧ z = x.1.2.2.2.2
/-- the key of a word in a phrase -/
def kyP (fd : Int) (w : List Int) : List Int := [112] ++ [48 + fd] ++ w
theorem phT_in {A S : List Int} {x : Int} (h : x ∈ phT A S) : x ∈ S := (List.mem_filter.mp h).1
theorem phT_len {A S : List Int} : len (phT A S) ≤ len S := sorry
theorem exPh_kd {L : List It} (hL : L = ixL a sg ml cl tk tkc sc on ot bf sp pc n1 f rsM rsC rb c0 c1 c2 c8 c9 SG SP) (hO : OwS Θ L) : ∀ z, exPh sc on ot SG z → kd Θ z = 23 ∨ kd Θ z = 56 := sorry
theorem u_ph51 {Q : Th → Prop} {L : List It} {l2 cw ew : Int} {rw' : List Int} {ws : List (List Int)} {R : List Int} (hL : L = ixL a sg ml cl tk tkc sc on ot bf sp pc n1 f rsM rsC rb c0 c1 c2 c8 c9 SG SP) (hd : 12 ≤ d) (hO : OwS Θ0 L) (hR : IxR Θ0 WV K SG rb bd rsC) (hl2 : Fx Θ0 l2 (3, rw', cw, ew)) (hws : all2 (Str Θ0) rw' ws) (hfd : 0 ≤ fd ∧ fd < 10) (hww : ∀ w, w ∈ ws → len w ≤ 100000 ∧ len (colX WV f SG bd (kyP fd w)) ≤ 500000) (hwl : ws.length ≤ 1000000)
    (hQ : ∀ Θ' l4 ca ea (g : Nat), GrX (exPh sc on ot SG) Θ0 Θ' → OwT Θ0 L Θ' L → xo Θ' l4 = (23, R, ca, ea) → (∀ x, x ∈ R → 0 ≤ x ∧ x / 16384 ∈ lvD f SG bd) → len R ≤ 500000 → g ≤ G → W2_X7_phrase_206 ω d G a to l4 g Θ' Q) :
    ∀ (N j : Nat) (A : List Int) (l4 l5 ca ea : Int) (n4 n5 : Nat) (g : Nat) (Θ1 : Th), ws.length - j = N → j ≤ ws.length → 1 ≤ j → ((l4 = on ∧ l5 = ot ∧ n4 = 6 ∧ n5 = 7) ∨ (l4 = ot ∧ l5 = on ∧ n4 = 7 ∧ n5 = 6)) → GrX (exPh sc on ot SG) Θ0 Θ1 → OwT Θ0 L Θ1 L → xo Θ1 l4 = (23, A, ca, ea) → A.Pairwise (fun x y => x < y) → (∀ x, x ∈ A → 0 ≤ x ∧ x / 16384 ∈ lvD f SG bd) → len A ≤ 500000 → phN (fun w => colX WV f SG bd (kyP fd w)) A (ws.drop j) = R → (g : Int) + phG (fun w => colX WV f SG bd (kyP fd w)) (ws.drop j) ≤ (G : Int) → W2_X7_phrase_51 ω d G a fd l2 to l4 l5 (j : Int) g Θ1 Q := sorry
/-- the mails in which a phrase is -/
def phF (WV : Int → Wv) (f : Int → Bool) (SG : List SgE) (bd : List Int) (fd : Int) (ws : List (List Int)) : List Int := match ws with
  | [] => []
  | w :: r => phN (fun w => colX WV f SG bd (kyP fd w)) (colX WV f SG bd (kyP fd w)) r
theorem u_X7_phrase {Q : Th → Prop} {L : List It} {l2 cw ew : Int} {rw' : List Int} {ws : List (List Int)} (hL : L = ixL a sg ml cl tk tkc sc on ot bf sp pc n1 f rsM rsC rb c0 c1 c2 c8 c9 SG SP) (hd : 12 ≤ d) (hO : OwS Θ (btI to toc nt g0 :: L)) (hR : IxR Θ WV K SG rb bd rsC) (hl2 : Fx Θ l2 (3, rw', cw, ew)) (hws : all2 (Str Θ) rw' ws) (hfd : 0 ≤ fd ∧ fd < 10) (hww : ∀ w, w ∈ ws → len w ≤ 100000 ∧ len (colX WV f SG bd (kyP fd w)) ≤ 500000) (hwl : ws.length ≤ 1000000) (hw0 : ws ≠ []) (hM : MlR Θ rsM (lvD f SG bd) num nt) (hnt : 0 ≤ nt ∧ nt ≤ 10000)
    (hG : phG (fun w => colX WV f SG bd (kyP fd w)) ws ≤ (G : Int))
    (hQ : ∀ Θ' toc', OwT Θ (btI to toc nt g0 :: L) Θ' (btI to toc' nt (mOf num g0 (phF WV f SG bd fd ws)) :: L) → Q Θ') : w2_X7_phrase ω d G a fd l2 to Θ Q := sorry
end PHR

/-! 78.aw.lean.txt -/
/-! an empty piece of a wide String; matching with it (printed by mk_78aw.py) -/
set_option maxRecDepth 100000
section SB0
variable {ω : AO} {d G : Nat} {S : AS} {Θ : Th} {a v i n : Int} {l : List Int}
theorem t_J3_newString_0 {Q : Int → AS → Prop} (hn : n = 0) (hQ : Q (ω.2.2.1 RJ3 295 : Int) S) : w_J3_newString ω d G v i n S Q := sorry
theorem t_J2_substring_0 {Q : Int → AS → Prop} (hd : 6 ≤ d) (h : StrC S a l) (hl : ln S (ct S a 0) ≤ 30000000) (hi : 0 ≤ i ∧ i ≤ len l) (hn : n = i) (hc : ct S a 1 = 1) (hne : l ≠ []) (hQ : Q (ω.2.2.1 RJ3 295 : Int) S) : w_J2_substring ω d G a i n S Q := sorry
theorem u_J2_substringE {Q : Int → Th → Prop} (hd : 6 ≤ d) (h : Str Θ a l) (hi : 0 ≤ i ∧ i ≤ n ∧ n ≤ len l) (hG : n - i + 5 ≤ (G : Int)) (hQ : ∀ r Θ', NewS Θ Θ' r (sub l i n) → Q r Θ') : w2_J2_substring ω d G a i n Θ Q := sorry
end SB0
set_option maxHeartbeats 4000000
theorem s2_X7_matchingE {ω : AO} {d G : Nat} {l0 l1 l2 l3 : Int} {Θ : Th} {Q : Th → Prop} (hB : (0 + 1 ≤ G) ∧ ∀ (v0 : Int) (Θ0 : Th) (u0 : nt Θ ≤ v0 ∧ 0 ≤ v0) (b0 : Bl Θ) (t0 : Θ0 = nu Θ v0 (201, [], 0, 0)), (1 ≤ d) ∧ (3 ≤ d) ∧ (0 + 1 + 5 ≤ G) ∧ ∀ (Θ4 : Th) (t4 : Θ4 = uq Θ0 v0 (1, [], 16, 0)), (kd Θ4 l1 = 2) ∧ (¬ fz Θ4 v0) ∧ (bC (cp Θ4 v0) (len (vv Θ4 v0) + len (vv Θ4 l1)) ≤ 20000000) ∧ (11 ≤ d) ∧ (0 + 1 + 5 + (bK (bC (cp Θ4 v0) (len (vv Θ4 v0) + len (vv Θ4 l1))) (max (cx Θ4 v0) (wide (vv Θ4 l1))) - bK (cp Θ4 v0) (cx Θ4 v0)).toNat ≤ G) ∧ ∀ (Θ8 : Th) (t8 : Θ8 = uq Θ4 v0 (1, vv Θ4 v0 ++ vv Θ4 l1, bC (cp Θ4 v0) (len (vv Θ4 v0) + len (vv Θ4 l1)), max (cx Θ4 v0) (wide (vv Θ4 l1)))), (kd Θ8 l2 = 2) ∧ (7 ≤ d) ∧ ∀ (x16 : Int) (e16 : x16 = idx (vv Θ8 l2) (42 : Int) 0) (r16 : -2147483648 ≤ x16 ∧ x16 < 2147483648), (0 ≤ (0 : Int) ∧ (0 : Int) ≤ x16 ∧ x16 ≤ len (vv Θ8 l2)) ∧ (0 + 1 + 5 + (bK (bC (cp Θ4 v0) (len (vv Θ4 v0) + len (vv Θ4 l1))) (max (cx Θ4 v0) (wide (vv Θ4 l1))) - bK (cp Θ4 v0) (cx Θ4 v0)).toNat + (x16 - (0 : Int) + 5).toNat ≤ G) ∧ ∀ (x19 : Int) (Θ19 : Th) (e19 : NewS Θ8 Θ19 x19 (sub (vv Θ8 l2) (0 : Int) x16)), (¬ fz Θ19 v0) ∧ (bC (cp Θ19 v0) (len (vv Θ19 v0) + len (vv Θ19 x19)) ≤ 20000000) ∧ (0 + 1 + 5 + (bK (bC (cp Θ4 v0) (len (vv Θ4 v0) + len (vv Θ4 l1))) (max (cx Θ4 v0) (wide (vv Θ4 l1))) - bK (cp Θ4 v0) (cx Θ4 v0)).toNat + (x16 - (0 : Int) + 5).toNat + (bK (bC (cp Θ19 v0) (len (vv Θ19 v0) + len (vv Θ19 x19))) (max (cx Θ19 v0) (wide (vv Θ19 x19))) - bK (cp Θ19 v0) (cx Θ19 v0)).toNat ≤ G) ∧ ∀ (Θ22 : Th) (t22 : Θ22 = uq Θ19 v0 (1, vv Θ19 v0 ++ vv Θ19 x19, bC (cp Θ19 v0) (len (vv Θ19 v0) + len (vv Θ19 x19)), max (cx Θ19 v0) (wide (vv Θ19 x19)))), (len (vv Θ22 v0) ≤ 15000000) ∧ (8 ≤ d) ∧ (0 + 1 + 5 + (bK (bC (cp Θ4 v0) (len (vv Θ4 v0) + len (vv Θ4 l1))) (max (cx Θ4 v0) (wide (vv Θ4 l1))) - bK (cp Θ4 v0) (cx Θ4 v0)).toNat + (x16 - (0 : Int) + 5).toNat + (bK (bC (cp Θ19 v0) (len (vv Θ19 v0) + len (vv Θ19 x19))) (max (cx Θ19 v0) (wide (vv Θ19 x19))) - bK (cp Θ19 v0) (cx Θ19 v0)).toNat + (len (vv Θ22 v0) + 5).toNat ≤ G) ∧ ∀ (x25 : Int) (Θ25 : Th) (e25 : NewS Θ22 Θ25 x25 (vv Θ22 v0)) (n25 : nt Θ22 ≤ x25), W2_X7_matching_30 ω d G l0 l2 l3 x25 (0 + 1 + 5 + (bK (bC (cp Θ4 v0) (len (vv Θ4 v0) + len (vv Θ4 l1))) (max (cx Θ4 v0) (wide (vv Θ4 l1))) - bK (cp Θ4 v0) (cx Θ4 v0)).toNat + (x16 - (0 : Int) + 5).toNat + (bK (bC (cp Θ19 v0) (len (vv Θ19 v0) + len (vv Θ19 x19))) (max (cx Θ19 v0) (wide (vv Θ19 x19))) - bK (cp Θ19 v0) (cx Θ19 v0)).toNat + (len (vv Θ22 v0) + 5).toNat) Θ25 Q) : w2_X7_matching ω d G l0 l1 l2 l3 Θ Q := sorry
/-! 78.ax.lean.txt -/
/-! the index: the words that fit a pattern (plain) -/
set_option maxRecDepth 100000
theorem pfx_iff {w h : List Int} : pAtB w h 0 = true ↔ ∃ r, w = h ++ r := sorry
theorem pfx_ge : ∀ (h r : List Int), 0 ≤ cmpL (h ++ r) h := sorry
theorem pfx_mid : ∀ (h w r : List Int), cmpL h w ≤ 0 → cmpL w (h ++ r) < 0 → ∃ s, w = h ++ s := sorry
theorem pfx_ahead {ks : List (List Int)} {h : List Int} (hs : SrtK ks) {j : Nat} {w : List Int} (hj : j < lbK ks h) (hw : ks[j]? = some w) : pAtB w h 0 = false := sorry
theorem pfx_rest {ks : List (List Int)} {h : List Int} (hs : SrtK ks) {k : Nat} {w : List Int} (hk : lbK ks h ≤ k) (hw : ks[k]? = some w) (hn : pAtB w h 0 = false) {j : Nat} {w2 : List Int} (hj : k ≤ j) (hw2 : ks[j]? = some w2) : pAtB w2 h 0 = false := sorry
/-- whether a word begins so and fits -/
def mtP (head pat : List Int) (w : List Int) : Bool := pAtB w head 0 && fitF pat w 2
/-- the mails after the words of a segment -/
def mtS (f : Int → Bool) (num : Int → Int) (P : List Int → Bool) : SgV → (Int → Bool) → Int → Bool
  | [], g => g
  | p :: r, g => mtS f num P r (if P p.1 = true then mOf num g (rdF f p.2) else g)
/-- the mails after segments -/
def mtG (f : Int → Bool) (num : Int → Int) (P : List Int → Bool) : List SgE → (Int → Bool) → Int → Bool
  | [], g => g
  | x :: r, g => mtG f num P r (mtS f num P x.2.2.2.2 g)
/-- the mails after the words of a document -/
def mtB (n : Int) (P : List Int → Bool) : List (List Int) → (Int → Bool) → Int → Bool
  | [], g => g
  | w :: r, g => mtB n P r (if P w = true then (fun j => g j || decide (j = n)) else g)
/-- the mails after documents -/
def mtD (WV : Int → Wv) (num : Int → Int) (P : List Int → Bool) : List Int → (Int → Bool) → Int → Bool
  | [], g => g
  | d :: r, g => mtD WV num P r (mtB (num d) P (WV d).1 g)
/-- how many hits are read -/
def mtC (f : Int → Bool) (P : List Int → Bool) : SgV → Int
  | [] => 0
  | p :: r => (if P p.1 = true then len (rdF f p.2) else 0) + mtC f P r
def mtCS (f : Int → Bool) (P : List Int → Bool) : List SgE → Int
  | [] => 0
  | x :: r => mtC f P x.2.2.2.2 + mtCS f P r
/-- how many hits documents have in words that fit -/
def htN (WV : Int → Wv) (P : List Int → Bool) : List Int → Int
  | [] => 0
  | d :: r => mtC (fun _ => false) P (enD (WV d) d) + htN WV P r
section MTL
variable {f : Int → Bool} {num : Int → Int} {P : List Int → Bool} {WV : Int → Wv}
theorem mtC_nn : ∀ {W : SgV}, 0 ≤ mtC f P W := sorry
theorem mtCS_nn : ∀ {SG : List SgE}, 0 ≤ mtCS f P SG := sorry
theorem mtS_non : ∀ {W : SgV} {g : Int → Bool}, (∀ p, p ∈ W → P p.1 = false) → mtS f num P W g = g := sorry
theorem mtS_skip {W : SgV} {g : Int → Bool} : ∀ (n : Nat), (∀ p, p ∈ W.take n → P p.1 = false) → mtS f num P W g = mtS f num P (W.drop n) g ∧ mtC f P (W.drop n) ≤ mtC f P W := sorry
theorem mtB_non {n : Int} : ∀ {l : List (List Int)} {g : Int → Bool}, (∀ w, w ∈ l → P w = false) → mtB n P l g = g := sorry
theorem mtB_skip {n : Int} {l : List (List Int)} {g : Int → Bool} : ∀ (i : Nat), (∀ w, w ∈ l.take i → P w = false) → mtB n P l g = mtB n P (l.drop i) g := sorry
theorem mtB_law {n : Int} : ∀ {l : List (List Int)} {g : Int → Bool}, mtB n P l g = fun j => g j || (l.any P && decide (j = n)) := sorry
/-- the mails of documents that have a word that fits -/
def stmP (WV : Int → Wv) (live : List Int) (num : Int → Int) (P : List Int → Bool) (g : Int → Bool) : Int → Bool := fun j => g j || live.any (fun d => (WV d).1.any P && decide (j = num d))
theorem stmP_app {A B : List Int} {g : Int → Bool} : stmP WV (A ++ B) num P g = stmP WV B num P (stmP WV A num P g) := sorry
theorem mtD_law : ∀ {D : List Int} {g : Int → Bool}, mtD WV num P D g = stmP WV D num P g := sorry
theorem mtS_any : ∀ {W : SgV} {g : Int → Bool}, mtS f num P W g = fun j => g j || W.any (fun p => P p.1 && (rdF f p.2).any (fun x => decide (j = num (x / 16384)))) := sorry
theorem mtS_law {D : List Int} {g : Int → Bool} (hok : ∀ k, k ∈ D → wvOk (WV k)) : mtS f num P (sgX WV D) g = stmP WV (lfD f D) num P g := sorry
theorem mtG_law : ∀ {SG : List SgE} {g : Int → Bool}, (∀ x, x ∈ SG → x.2.2.2.2 = sgX WV x.2.2.2.1) → (∀ k, k ∈ dcA SG → wvOk (WV k)) → mtG f num P SG g = stmP WV (lfD f (dcA SG)) num P g := sorry
-- what is read
theorem rdF_no {l : List Int} : rdF (fun _ => false) l = l := List.filter_eq_self.mpr (fun _ _ => rfl)
/-- words each once: their hits in a row are no more than the row has -/
def lkC (P : List Int → Bool) (E : SgV) : List (List Int) → Int
  | [] => 0
  | t :: r => (if P t = true then len (lkS E t) else 0) + lkC P E r
theorem lkC_nil : ∀ {T : List (List Int)}, lkC P [] T = 0 := sorry
theorem lkC_cons {q : List Int × List Int} {E : SgV} : ∀ {T : List (List Int)}, T.Pairwise (fun x y => cmpL x y < 0) → lkC P (q :: E) T ≤ (if q.1 ∈ T then (if P q.1 = true then len q.2 else 0) else 0) + lkC P E T := sorry
theorem lkC_le {T : List (List Int)} (hT : T.Pairwise (fun x y => cmpL x y < 0)) : ∀ {E : SgV}, lkC P E T ≤ mtC (fun _ => false) P E := sorry
/-- the hits of documents in words -/
def lkD (WV : Int → Wv) (P : List Int → Bool) (E : List Int) : List (List Int) → Int
  | [] => 0
  | t :: r => (if P t = true then len (E.flatMap (hitD WV t)) else 0) + lkD WV P E r
theorem lkD_nil : ∀ {T : List (List Int)}, lkD WV P [] T = 0 := sorry
theorem lkD_cons {d : Int} {E : List Int} : ∀ {T : List (List Int)}, lkD WV P (d :: E) T = lkC P (enD (WV d) d) T + lkD WV P E T := sorry
theorem lkD_le {T : List (List Int)} (hT : T.Pairwise (fun x y => cmpL x y < 0)) : ∀ {E : List Int}, lkD WV P E T ≤ htN WV P E := sorry
theorem mtC_le {D : List Int} (hok : ∀ k, k ∈ D → wvOk (WV k)) : mtC f P (sgX WV D) ≤ htN WV P (lfD f D) := sorry
theorem htN_app : ∀ {A B : List Int}, htN WV P (A ++ B) = htN WV P A + htN WV P B := sorry
theorem mtCS_le : ∀ {SG : List SgE}, (∀ x, x ∈ SG → x.2.2.2.2 = sgX WV x.2.2.2.1) → (∀ k, k ∈ dcA SG → wvOk (WV k)) → mtCS f P SG ≤ htN WV P (lfD f (dcA SG)) := sorry
end MTL

