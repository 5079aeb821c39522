/-! 67.aa.lean.txt -/
/-! segments -/
set_option maxRecDepth 100000
def w2_X21_init (ω : AO) (d G : Nat) (l0 l1 : Int) (Θ : Th) (Q : Th → Prop) : Prop := Hid (∀ S, bel S → R2 ω S Θ → Ctr ω yX21_init cX21_init 5 none d G [(2, l0), (2, l1)] S (eU S (q2U ω Θ Q)))
def w2_X22_keep (ω : AO) (d G : Nat) (l0 l1 l2 : Int) (Θ : Th) (Q : Th → Prop) : Prop := Hid (∀ S, bel S → R2 ω S Θ → Ctr ω yX22_keep cX22_keep 3 none d G [(2, l0), (2, l1), (2, l2)] S (eU S (q2U ω Θ Q)))
def w2_X22_find (ω : AO) (d G : Nat) (l0 l1 : Int) (Θ : Th) (Q : Int → Th → Prop) : Prop := Hid (∀ S, bel S → R2 ω S Θ → Ctr ω yX22_find cX22_find 3 (some (.object "java/lang/String")) d G [(2, l0), (2, l1)] S (eA S (q2 ω Θ Q)))
def w2_X22_value (ω : AO) (d G : Nat) (l0 l1 : Int) (Θ : Th) (Q : Int → Th → Prop) : Prop := Hid (∀ S, bel S → R2 ω S Θ → Ctr ω yX22_value cX22_value 3 (some (.object "java/lang/String")) d G [(2, l0), (2, l1)] S (eA S (q2 ω Θ Q)))
def w2_X22_head (ω : AO) (d G : Nat) (l0 l1 : Int) (Θ : Th) (Q : Th → Prop) : Prop := Hid (∀ S, bel S → R2 ω S Θ → Ctr ω yX22_head cX22_head 7 none d G [(2, l0), (2, l1)] S (eU S (q2U ω Θ Q)))
def w2_X22_typeOf (ω : AO) (d G : Nat) (l0 l1 : Int) (Θ : Th) (Q : Int → Th → Prop) : Prop := Hid (∀ S, bel S → R2 ω S Θ → Ctr ω yX22_typeOf cX22_typeOf 4 (some (.object "java/lang/String")) d G [(2, l0), (2, l1)] S (eA S (q2 ω Θ Q)))
def w2_X22_kindOf (ω : AO) (d G : Nat) (l0 : Int) (Θ : Th) (Q : Int → Th → Prop) : Prop := Hid (∀ S, bel S → R2 ω S Θ → Ctr ω yX22_kindOf cX22_kindOf 2 (some .int) d G [(2, l0)] S (eI S (q2 ω Θ Q)))
def w2_X22_isText (ω : AO) (d G : Nat) (l0 : Int) (Θ : Th) (Q : Int → Th → Prop) : Prop := Hid (∀ S, bel S → R2 ω S Θ → Ctr ω yX22_isText cX22_isText 1 (some .boolean) d G [(2, l0)] S (eZ S (q2 ω Θ Q)))
def w2_X22_boundary (ω : AO) (d G : Nat) (l0 : Int) (Θ : Th) (Q : Int → Th → Prop) : Prop := Hid (∀ S, bel S → R2 ω S Θ → Ctr ω yX22_boundary cX22_boundary 2 (some (.object "java/lang/String")) d G [(2, l0)] S (eA S (q2 ω Θ Q)))
def w2_X22_init (ω : AO) (d G : Nat) (l0 l1 l2 l3 l4 l5 : Int) (Θ : Th) (Q : Th → Prop) : Prop := Hid (∀ S, bel S → R2 ω S Θ → Ctr ω yX22_init cX22_init 8 none d G [(2, l0), (2, l1), (2, l2), (0, l3), (0, l4), (0, l5)] S (eU S (q2U ω Θ Q)))
theorem lm_X21_9 : ILk RX21 9 yJ7_init cJ7_init 1 0 := sorry
theorem lf_X21_10_34 : FLk RX21 10 34 0 (.object "java/util/ArrayList") true := sorry
theorem lm_X21_16 : VLk RX21 16 2 yJ2_length cJ2_length 1 (some .int) 0 := sorry
theorem lm_X21_22 : VLk RX21 22 2 yJ2_indexOf_2 cJ2_indexOf_2 3 (some .int) 2 := sorry
theorem lr_X21_10_34 : FLkR RX21 10 34 0 (.object "java/util/ArrayList") := sorry
theorem lm_X21_26 : VLk RX21 26 2 yJ2_charAt cJ2_charAt 2 (some .char) 1 := sorry
theorem lm_X21_30 : VLk RX21 30 2 yJ2_substring cJ2_substring 5 (some (.object "java/lang/String")) 2 := sorry
theorem lm_X21_34 : VLk RX21 34 3 yJ7_add cJ7_add 2 (some .boolean) 1 := sorry
theorem lm_X22_158 : VLk RX22 158 35 yX22_find cX22_find 3 (some (.object "java/lang/String")) 1 := sorry
theorem lr_X22_18_35 : FLkR RX22 18 35 6 (.object "java/util/ArrayList") := sorry
theorem lm_X22_161 : VLk RX22 161 1 yJ1_toString cJ1_toString 1 (some (.object "java/lang/String")) 0 := sorry
theorem lm_X22_165 : ILk RX22 165 yX23_init cX23_init 3 2 := sorry
theorem lm_X22_168 : VLk RX22 168 3 yJ7_add cJ7_add 2 (some .boolean) 1 := sorry
theorem lm_X22_171 : VLk RX22 171 3 yJ7_size cJ7_size 1 (some .int) 0 := sorry
theorem lm_X22_117 : VLk RX22 117 3 yJ7_get cJ7_get 2 (some (.object "java/lang/Object")) 1 := sorry
theorem lm_X22_174 : VLk RX22 174 36 yX23_name cX23_name 1 (some (.object "java/lang/String")) 0 := sorry
theorem lm_X22_81 : VLk RX22 81 2 yJ2_equals cJ2_equals 3 (some .boolean) 1 := sorry
theorem lm_X22_176 : VLk RX22 176 36 yX23_value cX23_value 1 (some (.object "java/lang/String")) 0 := sorry
theorem lm_X22_111 : ILk RX22 111 yJ1_init cJ1_init 1 0 := sorry
theorem lr_X22_29_35 : FLkR RX22 29 35 3 .int := sorry
theorem lr_X22_32_35 : FLkR RX22 32 35 4 .int := sorry
theorem lr_X22_112_34 : FLkR RX22 112 34 0 (.object "java/util/ArrayList") := sorry
theorem lm_X22_121 : VLk RX22 121 2 yJ2_isEmpty cJ2_isEmpty 1 (some .boolean) 0 := sorry
theorem lm_X22_125 : VLk RX22 125 2 yJ2_charAt cJ2_charAt 2 (some .char) 1 := sorry
theorem lm_X22_129 : SLk RX22 129 yX12_isBlank cX12_isBlank 1 (some .boolean) 1 := sorry
theorem lm_X22_133 : VLk RX22 133 1 yJ1_append_3 cJ1_append_3 2 (some (.object "java/lang/StringBuilde\x72")) 1 := sorry
theorem lm_X22_143 : VLk RX22 143 35 yX22_keep cX22_keep 3 none 2 := sorry
theorem lf_X22_155_35 : FLk RX22 155 35 7 .int false := sorry
theorem lm_X22_137 : VLk RX22 137 2 yJ2_length cJ2_length 1 (some .int) 0 := sorry
theorem lm_X22_140 : SLk RX22 140 yX12_isNamePart cX12_isNamePart 1 (some .boolean) 1 := sorry
theorem lm_X22_147 : VLk RX22 147 2 yJ2_substring cJ2_substring 5 (some (.object "java/lang/String")) 2 := sorry
theorem lm_X22_63 : SLk RX22 63 yX12_small cX12_small 3 (some (.object "java/lang/String")) 1 := sorry
theorem lm_X22_151 : VLk RX22 151 2 yJ2_substring_2 cJ2_substring_2 2 (some (.object "java/lang/String")) 1 := sorry
theorem lm_X22_154 : ILk RX22 154 yJ1_init_2 cJ1_init_2 2 1 := sorry
theorem lm_X22_178 : VLk RX22 178 2 yJ2_indexOf_2 cJ2_indexOf_2 3 (some .int) 2 := sorry
theorem lm_X22_182 : VLk RX22 182 2 yJ2_indexOf_3 cJ2_indexOf_3 2 (some .int) 1 := sorry
theorem lr_X22_21_35 : FLkR RX22 21 35 0 (.object "MailWorks$Entity") := sorry
theorem lr_X22_106_35 : FLkR RX22 106 35 8 .int := sorry
theorem lr_X22_71_35 : FLkR RX22 71 35 9 (.object "java/lang/String") := sorry
theorem lr_X22_35_35 : FLkR RX22 35 35 2 .int := sorry
theorem lm_X22_195 : SLk RX22 195 yX12_begins cX12_begins 3 (some .boolean) 3 := sorry
theorem lr_X22_76_35 : FLkR RX22 76 35 10 (.object "java/lang/String") := sorry
theorem lm_X22_199 : VLk RX22 199 35 yX22_boundary cX22_boundary 2 (some (.object "java/lang/String")) 0 := sorry
theorem lr_X22_87_35 : FLkR RX22 87 35 13 .boolean := sorry
theorem lm_X22_209 : VLk RX22 209 2 yJ2_startsWith_2 cJ2_startsWith_2 2 (some .boolean) 1 := sorry
theorem lr_X22_53_35 : FLkR RX22 53 35 12 (.object "MailWorks$Value") := sorry
theorem lm_X22_93 : VLk RX22 93 37 yX24_find cX24_find 3 (some (.object "java/lang/String")) 1 := sorry
theorem lm_X22_11 : ILk RX22 11 yJ7_init cJ7_init 1 0 := sorry
theorem lf_X22_12_35 : FLk RX22 12 35 5 (.object "java/util/ArrayList") true := sorry
theorem lf_X22_18_35 : FLk RX22 18 35 6 (.object "java/util/ArrayList") true := sorry
theorem lf_X22_21_35 : FLk RX22 21 35 0 (.object "MailWorks$Entity") true := sorry
theorem lf_X22_25_35 : FLk RX22 25 35 1 .int true := sorry
theorem lf_X22_29_35 : FLk RX22 29 35 3 .int true := sorry
theorem lf_X22_32_35 : FLk RX22 32 35 4 .int true := sorry
theorem lf_X22_35_35 : FLk RX22 35 35 2 .int true := sorry
theorem lm_X22_38 : VLk RX22 38 35 yX22_head cX22_head 7 none 1 := sorry
theorem lm_X22_46 : VLk RX22 46 35 yX22_value cX22_value 3 (some (.object "java/lang/String")) 1 := sorry
theorem lm_X22_50 : ILk RX22 50 yX24_init cX24_init 6 1 := sorry
theorem lf_X22_53_35 : FLk RX22 53 35 12 (.object "MailWorks$Value") false := sorry
theorem lr_X22_59_37 : FLkR RX22 59 37 0 (.object "java/lang/String") := sorry
theorem lm_X22_68 : VLk RX22 68 35 yX22_typeOf cX22_typeOf 4 (some (.object "java/lang/String")) 1 := sorry
theorem lf_X22_71_35 : FLk RX22 71 35 9 (.object "java/lang/String") false := sorry
theorem lf_X22_76_35 : FLk RX22 76 35 10 (.object "java/lang/String") false := sorry
theorem lf_X22_87_35 : FLk RX22 87 35 13 .boolean false := sorry
theorem lf_X22_100_35 : FLk RX22 100 35 11 (.object "java/lang/String") false := sorry
theorem lm_X22_102 : VLk RX22 102 35 yX22_kindOf cX22_kindOf 2 (some .int) 0 := sorry
theorem lf_X22_106_35 : FLk RX22 106 35 8 .int false := sorry
def W2_X21_init_17 (ω : AO) (d G : Nat) (l0 l1 l2 : Int) (g : Nat) (Θ : Th) (Q : Th → Prop) : Prop := Hid (SJ2 ω yX21_init cX21_init 5 none d G (fun Sz Θz => (eU Sz (q2U ω Θz Q))) 17 [(2, l0), (2, l1), (0, l2), vN, vN] [] g Θ)
def W2_X21_init_42 (ω : AO) (d G : Nat) (l0 l1 l2 l3 s0 : Int) (g : Nat) (Θ : Th) (Q : Th → Prop) : Prop := Hid (SJ2 ω yX21_init cX21_init 5 none d G (fun Sz Θz => (eU Sz (q2U ω Θz Q))) 42 [(2, l0), (2, l1), (0, l2), (0, l3), vN] [(0, s0)] g Θ)
def W2_X21_init_54 (ω : AO) (d G : Nat) (l0 l1 l2 l3 l4 : Int) (g : Nat) (Θ : Th) (Q : Th → Prop) : Prop := Hid (SJ2 ω yX21_init cX21_init 5 none d G (fun Sz Θz => (eU Sz (q2U ω Θz Q))) 54 [(2, l0), (2, l1), (0, l2), (0, l3), (0, l4)] [] g Θ)
def W2_X21_init_88 (ω : AO) (d G : Nat) (l0 l1 l3 s0 s1 s2 : Int) (g : Nat) (Θ : Th) (Q : Th → Prop) : Prop := Hid (SJ2 ω yX21_init cX21_init 5 none d G (fun Sz Θz => (eU Sz (q2U ω Θz Q))) 88 [(2, l0), (2, l1), vN, (0, l3), vN] [(0, s0), (2, s1), (2, s2)] g Θ)
def W2_X21_init_89 (ω : AO) (d G : Nat) (l0 l1 l3 s0 s1 s2 s3 : Int) (g : Nat) (Θ : Th) (Q : Th → Prop) : Prop := Hid (SJ2 ω yX21_init cX21_init 5 none d G (fun Sz Θz => (eU Sz (q2U ω Θz Q))) 89 [(2, l0), (2, l1), vN, (0, l3), vN] [(0, s0), (0, s1), (2, s2), (2, s3)] g Θ)
set_option maxHeartbeats 4000000 in
theorem s2_X21_init {ω : AO} {d G : Nat} {l0 l1 : Int} {Θ : Th} {Q : Th → Prop} (hB : (1 ≤ d) ∧ (0 ≤ l0) ∧ (0 + 1 ≤ G) ∧ ∀ (v5 : Int) (Θ5 : Th) (u5 : nt Θ ≤ v5 ∧ 0 ≤ v5) (b5 : Bl Θ) (t5 : Θ5 = nu Θ v5 (203, [], 0, 0)), (4 ≤ d) ∧ ∀ (k9 : Int) (Θ9 : Th) (t9 : Θ9 = uq Θ5 v5 (3, [], 0, k9)), (kd Θ9 l0 = 34) ∧ (¬ fz Θ9 l0) ∧ ∀ (Θ12 : Th) (t12 : Θ12 = pf Θ9 l0 0 v5), W2_X21_init_17 ω d G l0 l1 0 (0 + 1) Θ12 Q) : w2_X21_init ω d G l0 l1 Θ Q := sorry
set_option maxHeartbeats 4000000 in
theorem s2_X21_init_17 {ω : AO} {d G : Nat} {l0 l1 l2 : Int} {g : Nat} {Θ : Th} {Q : Th → Prop} (hB : (1 ≤ d) ∧ (kd Θ l1 = 2) ∧ (2 ≤ d) ∧ (g ≤ G) ∧ ∀ (x19 : Int) (e19 : x19 = len (vv Θ l1)) (r19 : -2147483648 ≤ x19 ∧ x19 < 2147483648), (-2147483648 ≤ l2 ∧ l2 < 2147483648) ∧ (∀ (c22 : x19 ≤ l2), Q Θ) ∧ (∀ (c22 : l2 < x19), (6 ≤ d) ∧ ∀ (x29 : Int) (e29 : x29 = idx (vv Θ l1) (10 : Int) l2) (r29 : -2147483648 ≤ x29 ∧ x29 < 2147483648), (∀ (c34 : x29 < 0), W2_X21_init_42 ω d G l0 l1 l2 x29 0 (g) Θ Q) ∧ (∀ (c34 : 0 ≤ x29), W2_X21_init_42 ω d G l0 l1 l2 x29 1 (g) Θ Q))) : W2_X21_init_17 ω d G l0 l1 l2 g Θ Q := sorry
set_option maxHeartbeats 4000000 in
theorem s2_X21_init_42 {ω : AO} {d G : Nat} {l0 l1 l2 l3 s0 : Int} {g : Nat} {Θ : Th} {Q : Th → Prop} (hB : (-2147483648 ≤ s0 ∧ s0 < 2147483648) ∧ (∀ (c46 : ¬ s0 = 0), W2_X21_init_54 ω d G l0 l1 l2 l3 s0 (g) Θ Q) ∧ (∀ (c46 : s0 = 0), (1 ≤ d) ∧ (kd Θ l1 = 2) ∧ (2 ≤ d) ∧ (g ≤ G) ∧ ∀ (x50 : Int) (e50 : x50 = len (vv Θ l1)) (r50 : -2147483648 ≤ x50 ∧ x50 < 2147483648), W2_X21_init_54 ω d G l0 l1 l2 x50 s0 (g) Θ Q)) : W2_X21_init_42 ω d G l0 l1 l2 l3 s0 g Θ Q := sorry
set_option maxHeartbeats 4000000 in
theorem s2_X21_init_54 {ω : AO} {d G : Nat} {l0 l1 l2 l3 l4 : Int} {g : Nat} {Θ : Th} {Q : Th → Prop} (hB : (kd Θ l0 = 34) ∧ ∀ (v55 : Int) (e55 : v55 = gt (vv Θ l0) 0) (r55 : -1 ≤ v55), (-2147483648 ≤ l4 ∧ l4 < 2147483648) ∧ (∀ (c62 : l4 = 0), W2_X21_init_88 ω d G l0 l1 l3 l2 l1 v55 (g) Θ Q) ∧ (∀ (c62 : ¬ l4 = 0), (-2147483648 ≤ l3 ∧ l3 < 2147483648) ∧ (-2147483648 ≤ l2 ∧ l2 < 2147483648) ∧ (∀ (c67 : l3 ≤ l2), W2_X21_init_88 ω d G l0 l1 l3 l2 l1 v55 (g) Θ Q) ∧ (∀ (c67 : l2 < l3), (1 ≤ d) ∧ (kd Θ l1 = 2) ∧ (0 ≤ (l3 - 1) ∧ (l3 - 1) < len (vv Θ l1)) ∧ (5 ≤ d) ∧ (g ≤ G) ∧ ∀ (x74 : Int) (e74 : x74 = gt (vv Θ l1) (l3 - 1)) (r74 : 0 ≤ x74 ∧ x74 < 65536), (∀ (c79 : ¬ x74 = 13), W2_X21_init_88 ω d G l0 l1 l3 l2 l1 v55 (g) Θ Q) ∧ (∀ (c79 : x74 = 13), W2_X21_init_89 ω d G l0 l1 l3 ((l3 - 1)) l2 l1 v55 (g) Θ Q)))) : W2_X21_init_54 ω d G l0 l1 l2 l3 l4 g Θ Q := sorry
set_option maxHeartbeats 4000000 in
theorem s2_X21_init_88 {ω : AO} {d G : Nat} {l0 l1 l3 s0 s1 s2 : Int} {g : Nat} {Θ : Th} {Q : Th → Prop} (hB : W2_X21_init_89 ω d G l0 l1 l3 l3 s0 s1 s2 (g) Θ Q) : W2_X21_init_88 ω d G l0 l1 l3 s0 s1 s2 g Θ Q := sorry
set_option maxHeartbeats 4000000 in
theorem s2_X21_init_89 {ω : AO} {d G : Nat} {l0 l1 l3 s0 s1 s2 s3 : Int} {g : Nat} {Θ : Th} {Q : Th → Prop} (hB : (1 ≤ d) ∧ (kd Θ s2 = 2) ∧ (0 ≤ s1 ∧ s1 ≤ s0 ∧ s0 ≤ len (vv Θ s2)) ∧ (s1 < s0 ∨ wide (vv Θ s2) = 0 ∨ vv Θ s2 = []) ∧ (7 ≤ d) ∧ (g + (s0 - s1 + 5).toNat ≤ G) ∧ ∀ (x89 : Int) (Θ89 : Th) (e89 : NewS Θ Θ89 x89 (sub (vv Θ s2) s1 s0)), (kd Θ89 s3 = 3) ∧ (¬ fz Θ89 s3) ∧ (rf Θ89 x89) ∧ (adC (cp Θ89 s3) (len (vv Θ89 s3)) ≤ 60000000) ∧ (g + (s0 - s1 + 5).toNat + (adC (cp Θ89 s3) (len (vv Θ89 s3)) - cp Θ89 s3).toNat ≤ G) ∧ ∀ (k92 : Int) (Θ92 : Th) (t92 : Θ92 = uq Θ89 s3 (3, vv Θ89 s3 ++ [x89], adC (cp Θ89 s3) (len (vv Θ89 s3)), k92)), W2_X21_init_17 ω d G l0 l1 ((l3 + 1)) (g + (s0 - s1 + 5).toNat + (adC (cp Θ89 s3) (len (vv Θ89 s3)) - cp Θ89 s3).toNat) Θ92 Q) : W2_X21_init_89 ω d G l0 l1 l3 s0 s1 s2 s3 g Θ Q := sorry
set_option maxHeartbeats 4000000 in
theorem s2_X22_keep {ω : AO} {d G : Nat} {l0 l1 l2 : Int} {Θ : Th} {Q : Th → Prop} (hB : (∀ (c1 : l1 < 0), Q Θ) ∧ (∀ (c1 : 0 ≤ l1), (1 ≤ d) ∧ (kd Θ l0 = 35) ∧ ∃ G6 : Nat, (0 + G6 ≤ G) ∧ w2_X22_find ω (d - 1) G6 l0 l1 Θ (fun x6 Θ6 => ∀ (L6 : Le Θ Θ6) (r6 : -1 ≤ x6), (∀ (c9 : 0 ≤ x6), (0 + G6 ≤ G) ∧ Q Θ6) ∧ (∀ (c9 : x6 < 0), ∀ (v13 : Int) (e13 : v13 = gt (vv Θ6 l0) 6) (r13 : -1 ≤ v13), (0 + G6 + 1 ≤ G) ∧ ∀ (v16 : Int) (Θ16 : Th) (u16 : nt Θ6 ≤ v16 ∧ 0 ≤ v16) (b16 : Bl Θ6) (t16 : Θ16 = nu Θ6 v16 (36, [-1, -1], 0, 0)), (kd Θ16 l2 = 1) ∧ (len (vv Θ16 l2) ≤ 15000000) ∧ (8 ≤ d) ∧ (0 + G6 + 1 + (len (vv Θ16 l2) + 5).toNat ≤ G) ∧ ∀ (x22 : Int) (Θ22 : Th) (e22 : NewS Θ16 Θ22 x22 (vv Θ16 l2)) (n22 : nt Θ16 ≤ x22), ∃ G25 : Nat, (0 + G6 + 1 + (len (vv Θ16 l2) + 5).toNat + G25 ≤ G) ∧ w2_X23_init ω (d - 1) G25 v16 l1 x22 Θ22 (fun Θ25 => ∀ (L25 : Le Θ22 Θ25), (kd Θ25 v13 = 3) ∧ (¬ fz Θ25 v13) ∧ (rf Θ25 v16) ∧ (adC (cp Θ25 v13) (len (vv Θ25 v13)) ≤ 60000000) ∧ (7 ≤ d) ∧ (0 + G6 + 1 + (len (vv Θ16 l2) + 5).toNat + G25 + (adC (cp Θ25 v13) (len (vv Θ25 v13)) - cp Θ25 v13).toNat ≤ G) ∧ ∀ (k28 : Int) (Θ28 : Th) (t28 : Θ28 = uq Θ25 v13 (3, vv Θ25 v13 ++ [v16], adC (cp Θ25 v13) (len (vv Θ25 v13)), k28)), Q Θ28))))) : w2_X22_keep ω d G l0 l1 l2 Θ Q := sorry
def W2_X22_find_2 (ω : AO) (d G : Nat) (l0 l1 l2 : Int) (g : Nat) (Θ : Th) (Q : Int → Th → Prop) : Prop := Hid (SJ2 ω yX22_find cX22_find 3 (some (.object "java/lang/String")) d G (fun Sz Θz => (eA Sz (q2 ω Θz Q))) 2 [(2, l0), (2, l1), (0, l2)] [] g Θ)
set_option maxHeartbeats 4000000 in
theorem s2_X22_find {ω : AO} {d G : Nat} {l0 l1 : Int} {Θ : Th} {Q : Int → Th → Prop} (hB : W2_X22_find_2 ω d G l0 l1 0 (0) Θ Q) : w2_X22_find ω d G l0 l1 Θ Q := sorry
set_option maxHeartbeats 4000000 in
theorem s2_X22_find_2 {ω : AO} {d G : Nat} {l0 l1 l2 : Int} {g : Nat} {Θ : Th} {Q : Int → Th → Prop} (hB : (kd Θ l0 = 35) ∧ ∀ (v4 : Int) (e4 : v4 = gt (vv Θ l0) 6) (r4 : -1 ≤ v4), (1 ≤ d) ∧ (kd Θ v4 = 3) ∧ (g ≤ G) ∧ ∀ (x7 : Int) (e7 : x7 = len (vv Θ v4)) (r7 : -2147483648 ≤ x7 ∧ x7 < 2147483648), (-2147483648 ≤ l2 ∧ l2 < 2147483648) ∧ (∀ (c10 : x7 ≤ l2), (-1 ≤ (-1)) ∧ Q (-1) Θ) ∧ (∀ (c10 : l2 < x7), ∀ (v14 : Int) (e14 : v14 = gt (vv Θ l0) 6) (r14 : -1 ≤ v14), (kd Θ v14 = 3) ∧ (0 ≤ l2 ∧ l2 < len (vv Θ v14)) ∧ (3 ≤ d) ∧ ∀ (x18 : Int) (e18 : x18 = gt (vv Θ v14) l2) (r18 : -1 ≤ x18), (x18 < 0 ∨ kd Θ x18 ∈ [36]) ∧ (kd Θ x18 = 36) ∧ ∃ G24 : Nat, (g + G24 ≤ G) ∧ w2_X23_name ω (d - 1) G24 x18 Θ (fun x24 Θ24 => ∀ (L24 : Le Θ Θ24) (r24 : -1 ≤ x24), (kd Θ24 x24 = 2) ∧ (kd Θ24 l1 = 2) ∧ (2 ≤ d) ∧ (g + G24 ≤ G) ∧ ∀ (x28 : Int) (e28 : x28 = if vv Θ24 x24 = vv Θ24 l1 then 1 else 0) (r28 : x28 = 0 ∨ x28 = 1), (∀ (c31 : x28 = 0), W2_X22_find_2 ω d G l0 l1 ((l2 + 1)) (g + G24) Θ24 Q) ∧ (∀ (c31 : ¬ x28 = 0), ∀ (v35 : Int) (e35 : v35 = gt (vv Θ24 l0) 6) (r35 : -1 ≤ v35), (kd Θ24 v35 = 3) ∧ (0 ≤ l2 ∧ l2 < len (vv Θ24 v35)) ∧ ∀ (x39 : Int) (e39 : x39 = gt (vv Θ24 v35) l2) (r39 : -1 ≤ x39), (x39 < 0 ∨ kd Θ24 x39 ∈ [36]) ∧ (kd Θ24 x39 = 36) ∧ ∃ G45 : Nat, (g + G24 + G45 ≤ G) ∧ w2_X23_value ω (d - 1) G45 x39 Θ24 (fun x45 Θ45 => ∀ (L45 : Le Θ24 Θ45) (r45 : -1 ≤ x45), (g + G24 + G45 ≤ G) ∧ (-1 ≤ x45) ∧ Q x45 Θ45))))) : W2_X22_find_2 ω d G l0 l1 l2 g Θ Q := sorry
set_option maxHeartbeats 4000000 in
theorem s2_X22_value {ω : AO} {d G : Nat} {l0 l1 : Int} {Θ : Th} {Q : Int → Th → Prop} (hB : (1 ≤ d) ∧ (kd Θ l0 = 35) ∧ ∃ G2 : Nat, (0 + G2 ≤ G) ∧ w2_X22_find ω (d - 1) G2 l0 l1 Θ (fun x2 Θ2 => ∀ (L2 : Le Θ Θ2) (r2 : -1 ≤ x2), (∀ (c7 : 0 ≤ x2), (0 + G2 ≤ G) ∧ (-1 ≤ x2) ∧ Q x2 Θ2) ∧ (∀ (c7 : x2 < 0), ∀ (v10 : Int) (h10 : Str Θ2 v10 []), (0 + G2 ≤ G) ∧ (-1 ≤ v10) ∧ Q v10 Θ2))) : w2_X22_value ω d G l0 l1 Θ Q := sorry
def W2_X22_head_16 (ω : AO) (d G : Nat) (l0 l1 l2 l3 l4 : Int) (g : Nat) (Θ : Th) (Q : Th → Prop) : Prop := Hid (SJ2 ω yX22_head cX22_head 7 none d G (fun Sz Θz => (eU Sz (q2U ω Θz Q))) 16 [(2, l0), (2, l1), (2, l2), (2, l3), (0, l4), vN, vN] [] g Θ)
def W2_X22_head_176 (ω : AO) (d G : Nat) (l0 l1 l2 l3 l4 : Int) (g : Nat) (Θ : Th) (Q : Th → Prop) : Prop := Hid (SJ2 ω yX22_head cX22_head 7 none d G (fun Sz Θz => (eU Sz (q2U ω Θz Q))) 176 [(2, l0), (2, l1), (2, l2), (2, l3), (0, l4), vN, vN] [] g Θ)
def W2_X22_head_76 (ω : AO) (d G : Nat) (l0 l1 l2 l3 l4 l5 l6 : Int) (g : Nat) (Θ : Th) (Q : Th → Prop) : Prop := Hid (SJ2 ω yX22_head cX22_head 7 none d G (fun Sz Θz => (eU Sz (q2U ω Θz Q))) 76 [(2, l0), (2, l1), (2, l2), (2, l3), (0, l4), (2, l5), (0, l6)] [] g Θ)
def W2_X22_head_105 (ω : AO) (d G : Nat) (l0 l1 l2 l3 l4 l5 l6 : Int) (g : Nat) (Θ : Th) (Q : Th → Prop) : Prop := Hid (SJ2 ω yX22_head cX22_head 7 none d G (fun Sz Θz => (eU Sz (q2U ω Θz Q))) 105 [(2, l0), (2, l1), (2, l2), (2, l3), (0, l4), (2, l5), (0, l6)] [] g Θ)
def W2_X22_head_170 (ω : AO) (d G : Nat) (l0 l1 l2 l3 l4 : Int) (g : Nat) (Θ : Th) (Q : Th → Prop) : Prop := Hid (SJ2 ω yX22_head cX22_head 7 none d G (fun Sz Θz => (eU Sz (q2U ω Θz Q))) 170 [(2, l0), (2, l1), (2, l2), (2, l3), (0, l4), vN, vN] [] g Θ)
set_option maxHeartbeats 4000000 in
theorem s2_X22_head {ω : AO} {d G : Nat} {l0 l1 : Int} {Θ : Th} {Q : Th → Prop} (hB : (0 + 1 ≤ G) ∧ ∀ (v2 : Int) (Θ2 : Th) (u2 : nt Θ ≤ v2 ∧ 0 ≤ v2) (b2 : Bl Θ) (t2 : Θ2 = nu Θ v2 (201, [], 0, 0)), (1 ≤ d) ∧ (3 ≤ d) ∧ (0 + 1 + 5 ≤ G) ∧ ∀ (Θ6 : Th) (t6 : Θ6 = uq Θ2 v2 (1, [], 16, 0)), (kd Θ6 l0 = 35) ∧ ∀ (v11 : Int) (e11 : v11 = gt (vv Θ6 l0) 3) (r11 : -2147483648 ≤ v11 ∧ v11 < 2147483648), W2_X22_head_16 ω d G l0 l1 ((-1)) v2 v11 (0 + 1 + 5) Θ6 Q) : w2_X22_head ω d G l0 l1 Θ Q := sorry
set_option maxHeartbeats 4000000 in
theorem s2_X22_head_16 {ω : AO} {d G : Nat} {l0 l1 l2 l3 l4 : Int} {g : Nat} {Θ : Th} {Q : Th → Prop} (hB : (kd Θ l0 = 35) ∧ ∀ (v19 : Int) (e19 : v19 = gt (vv Θ l0) 4) (r19 : -2147483648 ≤ v19 ∧ v19 < 2147483648), (-2147483648 ≤ l4 ∧ l4 < 2147483648) ∧ (∀ (c22 : v19 ≤ l4), W2_X22_head_176 ω d G l0 l1 l2 l3 l4 (g) Θ Q) ∧ (∀ (c22 : l4 < v19), (kd Θ l1 = 34) ∧ ∀ (v26 : Int) (e26 : v26 = gt (vv Θ l1) 0) (r26 : -1 ≤ v26), (1 ≤ d) ∧ (kd Θ v26 = 3) ∧ (0 ≤ l4 ∧ l4 < len (vv Θ v26)) ∧ (3 ≤ d) ∧ (g ≤ G) ∧ ∀ (x31 : Int) (e31 : x31 = gt (vv Θ v26) l4) (r31 : -1 ≤ x31), (x31 < 0 ∨ kd Θ x31 ∈ [2]) ∧ (∀ (c40 : l2 < 0), W2_X22_head_76 ω d G l0 l1 l2 l3 l4 x31 0 (g) Θ Q) ∧ (∀ (c40 : 0 ≤ l2), (kd Θ x31 = 2) ∧ ∀ (x45 : Int) (e45 : x45 = if vv Θ x31 = [] then 1 else 0) (r45 : x45 = 0 ∨ x45 = 1), (∀ (c48 : ¬ x45 = 0), W2_X22_head_76 ω d G l0 l1 l2 l3 l4 x31 0 (g) Θ Q) ∧ (∀ (c48 : x45 = 0), (0 ≤ (0 : Int) ∧ (0 : Int) < len (vv Θ x31)) ∧ (5 ≤ d) ∧ ∀ (x54 : Int) (e54 : x54 = gt (vv Θ x31) (0 : Int)) (r54 : 0 ≤ x54 ∧ x54 < 65536), ∀ (x57 : Int) (e57 : x57 = if chBl x54 then 1 else 0) (r57 : x57 = 0 ∨ x57 = 1), (∀ (c60 : x57 = 0), W2_X22_head_76 ω d G l0 l1 l2 l3 l4 x31 0 (g) Θ Q) ∧ (∀ (c60 : ¬ x57 = 0), (kd Θ l3 = 1) ∧ (¬ fz Θ l3) ∧ (bC (cp Θ l3) (len (vv Θ l3) + len (vv Θ x31)) ≤ 20000000) ∧ (11 ≤ d) ∧ (g + (bK (bC (cp Θ l3) (len (vv Θ l3) + len (vv Θ x31))) (max (cx Θ l3) (wide (vv Θ x31))) - bK (cp Θ l3) (cx Θ l3)).toNat ≤ G) ∧ ∀ (Θ66 : Th) (t66 : Θ66 = uq Θ l3 (1, vv Θ l3 ++ vv Θ x31, bC (cp Θ l3) (len (vv Θ l3) + len (vv Θ x31)), max (cx Θ l3) (wide (vv Θ x31)))), W2_X22_head_16 ω d G l0 l1 l2 l3 ((l4 + 1)) (g + (bK (bC (cp Θ l3) (len (vv Θ l3) + len (vv Θ x31))) (max (cx Θ l3) (wide (vv Θ x31))) - bK (cp Θ l3) (cx Θ l3)).toNat) Θ66 Q))))) : W2_X22_head_16 ω d G l0 l1 l2 l3 l4 g Θ Q := sorry
set_option maxHeartbeats 4000000 in
theorem s2_X22_head_176 {ω : AO} {d G : Nat} {l0 l1 l2 l3 l4 : Int} {g : Nat} {Θ : Th} {Q : Th → Prop} (hB : (1 ≤ d) ∧ (kd Θ l0 = 35) ∧ ∃ G179 : Nat, (g + G179 ≤ G) ∧ w2_X22_keep ω (d - 1) G179 l0 l2 l3 Θ (fun Θ179 => ∀ (L179 : Le Θ Θ179), ∀ (v186 : Int) (e186 : v186 = gt (vv Θ179 l0) 4) (r186 : -2147483648 ≤ v186 ∧ v186 < 2147483648), (-2147483648 ≤ l4 ∧ l4 < 2147483648) ∧ (∀ (c189 : v186 ≤ l4), (¬ fz Θ179 l0) ∧ ∀ (Θ219 : Th) (t219 : Θ219 = pf Θ179 l0 7 l4), (g + G179 ≤ G) ∧ Q Θ219) ∧ (∀ (c189 : l4 < v186), (kd Θ179 l1 = 34) ∧ ∀ (v193 : Int) (e193 : v193 = gt (vv Θ179 l1) 0) (r193 : -1 ≤ v193), (kd Θ179 v193 = 3) ∧ (0 ≤ l4 ∧ l4 < len (vv Θ179 v193)) ∧ (3 ≤ d) ∧ (g + G179 ≤ G) ∧ ∀ (x198 : Int) (e198 : x198 = gt (vv Θ179 v193) l4) (r198 : -1 ≤ x198), (x198 < 0 ∨ kd Θ179 x198 ∈ [2]) ∧ (kd Θ179 x198 = 2) ∧ ∀ (x204 : Int) (e204 : x204 = if vv Θ179 x198 = [] then 1 else 0) (r204 : x204 = 0 ∨ x204 = 1), (∀ (c207 : x204 = 0), (¬ fz Θ179 l0) ∧ ∀ (Θ219 : Th) (t219 : Θ219 = pf Θ179 l0 7 l4), Q Θ219) ∧ (∀ (c207 : ¬ x204 = 0), (¬ fz Θ179 l0) ∧ (-2147483648 ≤ (l4 + 1) ∧ (l4 + 1) < 2147483648) ∧ ∀ (Θ219 : Th) (t219 : Θ219 = pf Θ179 l0 7 (l4 + 1)), Q Θ219)))) : W2_X22_head_176 ω d G l0 l1 l2 l3 l4 g Θ Q := sorry
set_option maxHeartbeats 4000000 in
theorem s2_X22_head_76 {ω : AO} {d G : Nat} {l0 l1 l2 l3 l4 l5 l6 : Int} {g : Nat} {Θ : Th} {Q : Th → Prop} (hB : (1 ≤ d) ∧ (kd Θ l5 = 2) ∧ (2 ≤ d) ∧ (g ≤ G) ∧ ∀ (x80 : Int) (e80 : x80 = len (vv Θ l5)) (r80 : -2147483648 ≤ x80 ∧ x80 < 2147483648), (-2147483648 ≤ l6 ∧ l6 < 2147483648) ∧ (∀ (c83 : x80 ≤ l6), W2_X22_head_105 ω d G l0 l1 l2 l3 l4 l5 l6 (g) Θ Q) ∧ (∀ (c83 : l6 < x80), (0 ≤ l6 ∧ l6 < len (vv Θ l5)) ∧ (5 ≤ d) ∧ ∀ (x90 : Int) (e90 : x90 = gt (vv Θ l5) l6) (r90 : 0 ≤ x90 ∧ x90 < 65536), (3 ≤ d) ∧ ∀ (x93 : Int) (e93 : x93 = if chNm x90 then 1 else 0) (r93 : x93 = 0 ∨ x93 = 1), (∀ (c96 : x93 = 0), W2_X22_head_105 ω d G l0 l1 l2 l3 l4 l5 l6 (g) Θ Q) ∧ (∀ (c96 : ¬ x93 = 0), W2_X22_head_76 ω d G l0 l1 l2 l3 l4 l5 ((l6 + 1)) (g) Θ Q))) : W2_X22_head_76 ω d G l0 l1 l2 l3 l4 l5 l6 g Θ Q := sorry
set_option maxHeartbeats 4000000 in
theorem s2_X22_head_105 {ω : AO} {d G : Nat} {l0 l1 l2 l3 l4 l5 l6 : Int} {g : Nat} {Θ : Th} {Q : Th → Prop} (hB : (-2147483648 ≤ l6 ∧ l6 < 2147483648) ∧ (∀ (c107 : l6 = 0), W2_X22_head_176 ω d G l0 l1 l2 l3 l4 (g) Θ Q) ∧ (∀ (c107 : ¬ l6 = 0), (1 ≤ d) ∧ (kd Θ l5 = 2) ∧ (2 ≤ d) ∧ (g ≤ G) ∧ ∀ (x114 : Int) (e114 : x114 = len (vv Θ l5)) (r114 : -2147483648 ≤ x114 ∧ x114 < 2147483648), (∀ (c117 : l6 = x114), W2_X22_head_176 ω d G l0 l1 l2 l3 l4 (g) Θ Q) ∧ (∀ (c117 : ¬ l6 = x114), (0 ≤ l6 ∧ l6 < len (vv Θ l5)) ∧ (5 ≤ d) ∧ ∀ (x124 : Int) (e124 : x124 = gt (vv Θ l5) l6) (r124 : 0 ≤ x124 ∧ x124 < 65536), (∀ (c129 : x124 = 58), (kd Θ l0 = 35) ∧ ∃ G138 : Nat, (g + G138 ≤ G) ∧ w2_X22_keep ω (d - 1) G138 l0 l2 l3 Θ (fun Θ138 => ∀ (L138 : Le Θ Θ138), (0 ≤ (0 : Int) ∧ (0 : Int) ≤ l6 ∧ l6 ≤ len (vv Θ138 l5)) ∧ ((0 : Int) < l6 ∨ wide (vv Θ138 l5) = 0 ∨ vv Θ138 l5 = []) ∧ (7 ≤ d) ∧ (g + G138 + (l6 - (0 : Int) + 5).toNat ≤ G) ∧ ∀ (x146 : Int) (Θ146 : Th) (e146 : NewS Θ138 Θ146 x146 (sub (vv Θ138 l5) (0 : Int) l6)), (len (vv Θ146 x146) ≤ 1000000) ∧ (10 ≤ d) ∧ (g + G138 + (l6 - (0 : Int) + 5).toNat + (5 * len (vv Θ146 x146) + 30).toNat ≤ G) ∧ ∀ (x149 : Int) (Θ149 : Th) (e149 : NewS Θ146 Θ149 x149 ((vv Θ146 x146).map lowB)), (g + G138 + (l6 - (0 : Int) + 5).toNat + (5 * len (vv Θ146 x146) + 30).toNat + 1 ≤ G) ∧ ∀ (v153 : Int) (Θ153 : Th) (u153 : nt Θ149 ≤ v153 ∧ 0 ≤ v153) (b153 : Bl Θ149) (t153 : Θ153 = nu Θ149 v153 (201, [], 0, 0)), (0 ≤ (l6 + 1) ∧ (l6 + 1) ≤ len (vv Θ153 l5)) ∧ ((l6 + 1) < len (vv Θ153 l5) ∨ wide (vv Θ153 l5) = 0 ∨ vv Θ153 l5 = []) ∧ (8 ≤ d) ∧ (g + G138 + (l6 - (0 : Int) + 5).toNat + (5 * len (vv Θ146 x146) + 30).toNat + 1 + (len (vv Θ153 l5) - (l6 + 1) + 5).toNat ≤ G) ∧ ∀ (x163 : Int) (Θ163 : Th) (e163 : NewS Θ153 Θ163 x163 (sub (vv Θ153 l5) (l6 + 1) (len (vv Θ153 l5)))), ∃ G166 : Nat, (g + G138 + (l6 - (0 : Int) + 5).toNat + (5 * len (vv Θ146 x146) + 30).toNat + 1 + (len (vv Θ153 l5) - (l6 + 1) + 5).toNat + G166 ≤ G) ∧ w2_J1_init_2 ω (d - 1) G166 v153 x163 Θ163 (fun Θ166 => ∀ (L166 : Le Θ163 Θ166), W2_X22_head_170 ω d G l0 l1 x149 v153 l4 (g + G138 + (l6 - (0 : Int) + 5).toNat + (5 * len (vv Θ146 x146) + 30).toNat + 1 + (len (vv Θ153 l5) - (l6 + 1) + 5).toNat + G166) Θ166 Q))) ∧ (∀ (c129 : ¬ x124 = 58), W2_X22_head_176 ω d G l0 l1 l2 l3 l4 (g) Θ Q)))) : W2_X22_head_105 ω d G l0 l1 l2 l3 l4 l5 l6 g Θ Q := sorry
set_option maxHeartbeats 4000000 in
theorem s2_X22_head_170 {ω : AO} {d G : Nat} {l0 l1 l2 l3 l4 : Int} {g : Nat} {Θ : Th} {Q : Th → Prop} (hB : W2_X22_head_16 ω d G l0 l1 l2 l3 ((l4 + 1)) (g) Θ Q) : W2_X22_head_170 ω d G l0 l1 l2 l3 l4 g Θ Q := sorry
def W2_X22_typeOf_44 (ω : AO) (d G : Nat) (l0 l1 : Int) (g : Nat) (Θ : Th) (Q : Int → Th → Prop) : Prop := Hid (SJ2 ω yX22_typeOf cX22_typeOf 4 (some (.object "java/lang/String")) d G (fun Sz Θz => (eA Sz (q2 ω Θz Q))) 44 [(2, l0), (2, l1), vN, vN] [] g Θ)
def W2_X22_typeOf_45 (ω : AO) (d G : Nat) (l0 l1 s0 : Int) (g : Nat) (Θ : Th) (Q : Int → Th → Prop) : Prop := Hid (SJ2 ω yX22_typeOf cX22_typeOf 4 (some (.object "java/lang/String")) d G (fun Sz Θz => (eA Sz (q2 ω Θz Q))) 45 [(2, l0), (2, l1), vN, vN] [(0, s0)] g Θ)
set_option maxHeartbeats 4000000 in
theorem s2_X22_typeOf {ω : AO} {d G : Nat} {l0 l1 : Int} {Θ : Th} {Q : Int → Th → Prop} (hB : (1 ≤ d) ∧ (kd Θ l1 = 2) ∧ (6 ≤ d) ∧ ∀ (x4 : Int) (e4 : x4 = idx (vv Θ l1) (47 : Int) (1 : Int)) (r4 : -2147483648 ≤ x4 ∧ x4 < 2147483648), (∀ (c9 : x4 ≤ 0), W2_X22_typeOf_44 ω d G l0 l1 (0) Θ Q) ∧ (∀ (c9 : 0 < x4), (2 ≤ d) ∧ ∀ (x16 : Int) (e16 : x16 = len (vv Θ l1)) (r16 : -2147483648 ≤ x16 ∧ x16 < 2147483648), (-2147483648 ≤ (x4 + 1) ∧ (x4 + 1) < 2147483648) ∧ (∀ (c19 : x16 ≤ (x4 + 1)), W2_X22_typeOf_44 ω d G l0 l1 (0) Θ Q) ∧ (∀ (c19 : (x4 + 1) < x16), (7 ≤ d) ∧ ∀ (x25 : Int) (e25 : x25 = idx (vv Θ l1) (32 : Int) 0) (r25 : -2147483648 ≤ x25 ∧ x25 < 2147483648), (∀ (c28 : 0 ≤ x25), W2_X22_typeOf_44 ω d G l0 l1 (0) Θ Q) ∧ (∀ (c28 : x25 < 0), ∀ (x34 : Int) (e34 : x34 = idx (vv Θ l1) (9 : Int) 0) (r34 : -2147483648 ≤ x34 ∧ x34 < 2147483648), (∀ (c37 : 0 ≤ x34), W2_X22_typeOf_44 ω d G l0 l1 (0) Θ Q) ∧ (∀ (c37 : x34 < 0), W2_X22_typeOf_45 ω d G l0 l1 1 (0) Θ Q))))) : w2_X22_typeOf ω d G l0 l1 Θ Q := sorry
set_option maxHeartbeats 4000000 in
theorem s2_X22_typeOf_44 {ω : AO} {d G : Nat} {l0 l1 : Int} {g : Nat} {Θ : Th} {Q : Int → Th → Prop} (hB : W2_X22_typeOf_45 ω d G l0 l1 0 (g) Θ Q) : W2_X22_typeOf_44 ω d G l0 l1 g Θ Q := sorry
set_option maxHeartbeats 4000000 in
theorem s2_X22_typeOf_45 {ω : AO} {d G : Nat} {l0 l1 s0 : Int} {g : Nat} {Θ : Th} {Q : Int → Th → Prop} (hB : (-2147483648 ≤ s0 ∧ s0 < 2147483648) ∧ (∀ (c47 : s0 = 0), (kd Θ l0 = 35) ∧ ∀ (v53 : Int) (e53 : v53 = gt (vv Θ l0) 0) (r53 : -1 ≤ v53), (∀ (c56 : v53 < 0), ∀ (v90 : Int) (h90 : Str Θ v90 [116, 101, 120, 116, 47, 112, 108, 97, 105, 110]), (g ≤ G) ∧ (-1 ≤ v90) ∧ Q v90 Θ) ∧ (∀ (c56 : 0 ≤ v53), ∀ (v60 : Int) (e60 : v60 = gt (vv Θ l0) 0) (r60 : -1 ≤ v60), (kd Θ v60 = 35) ∧ ∀ (v63 : Int) (e63 : v63 = gt (vv Θ v60) 8) (r63 : -2147483648 ≤ v63 ∧ v63 < 2147483648), (∀ (c67 : ¬ v63 = 1), ∀ (v90 : Int) (h90 : Str Θ v90 [116, 101, 120, 116, 47, 112, 108, 97, 105, 110]), (g ≤ G) ∧ (-1 ≤ v90) ∧ Q v90 Θ) ∧ (∀ (c67 : v63 = 1), ∀ (v71 : Int) (e71 : v71 = gt (vv Θ l0) 0) (r71 : -1 ≤ v71), (kd Θ v71 = 35) ∧ ∀ (v74 : Int) (e74 : v74 = gt (vv Θ v71) 9) (r74 : -1 ≤ v74), ∀ (v77 : Int) (h77 : Str Θ v77 [109, 117, 108, 116, 105, 112, 97, 114, 116, 47, 100, 105, 103, 101, 115, 116]), (1 ≤ d) ∧ (kd Θ v74 = 2) ∧ (2 ≤ d) ∧ (g ≤ G) ∧ ∀ (x79 : Int) (e79 : x79 = if vv Θ v74 = vv Θ v77 then 1 else 0) (r79 : x79 = 0 ∨ x79 = 1), (∀ (c82 : x79 = 0), ∀ (v90 : Int) (h90 : Str Θ v90 [116, 101, 120, 116, 47, 112, 108, 97, 105, 110]), (-1 ≤ v90) ∧ Q v90 Θ) ∧ (∀ (c82 : ¬ x79 = 0), ∀ (v85 : Int) (h85 : Str Θ v85 [109, 101, 115, 115, 97, 103, 101, 47, 114, 102, 99, 56, 50, 50]), (-1 ≤ v85) ∧ Q v85 Θ)))) ∧ (∀ (c47 : ¬ s0 = 0), (g ≤ G) ∧ (-1 ≤ l1) ∧ Q l1 Θ)) : W2_X22_typeOf_45 ω d G l0 l1 s0 g Θ Q := sorry
def W2_X22_kindOf_98 (ω : AO) (d G : Nat) (l0 : Int) (g : Nat) (Θ : Th) (Q : Int → Th → Prop) : Prop := Hid (SJ2 ω yX22_kindOf cX22_kindOf 2 (some .int) d G (fun Sz Θz => (eI Sz (q2 ω Θz Q))) 98 [(2, l0), vN] [] g Θ)
def W2_X22_kindOf_103 (ω : AO) (d G : Nat) (l0 s0 : Int) (g : Nat) (Θ : Th) (Q : Int → Th → Prop) : Prop := Hid (SJ2 ω yX22_kindOf cX22_kindOf 2 (some .int) d G (fun Sz Θz => (eI Sz (q2 ω Θz Q))) 103 [(2, l0), vN] [(0, s0)] g Θ)
set_option maxHeartbeats 4000000 in
theorem s2_X22_kindOf {ω : AO} {d G : Nat} {l0 : Int} {Θ : Th} {Q : Int → Th → Prop} (hB : (kd Θ l0 = 35) ∧ ∀ (v1 : Int) (e1 : v1 = gt (vv Θ l0) 2) (r1 : -2147483648 ≤ v1 ∧ v1 < 2147483648), (∀ (c6 : ¬ v1 = 8), ∀ (v12 : Int) (e12 : v12 = gt (vv Θ l0) 9) (r12 : -1 ≤ v12), ∀ (v15 : Int) (h15 : Str Θ v15 [109, 117, 108, 116, 105, 112, 97, 114, 116, 47]), (1 ≤ d) ∧ (kd Θ v12 = 2) ∧ (-1000000000 ≤ (0 : Int) ∧ (0 : Int) ≤ 1000000000) ∧ (7 ≤ d) ∧ ∀ (x18 : Int) (e18 : x18 = if pAtB (vv Θ v12) (vv Θ v15) (0 : Int) then 1 else 0) (r18 : x18 = 0 ∨ x18 = 1), (∀ (c21 : x18 = 0), ∀ (v53 : Int) (e53 : v53 = gt (vv Θ l0) 10) (r53 : -1 ≤ v53), (kd Θ v53 = 2) ∧ ∀ (x56 : Int) (e56 : x56 = if vv Θ v53 = [] then 1 else 0) (r56 : x56 = 0 ∨ x56 = 1), (∀ (c59 : ¬ x56 = 0), W2_X22_kindOf_98 ω d G l0 (0) Θ Q) ∧ (∀ (c59 : x56 = 0), ∀ (v63 : Int) (e63 : v63 = gt (vv Θ l0) 10) (r63 : -1 ≤ v63), ∀ (v66 : Int) (h66 : Str Θ v66 [55, 98, 105, 116]), (kd Θ v63 = 2) ∧ (2 ≤ d) ∧ ∀ (x68 : Int) (e68 : x68 = if vv Θ v63 = vv Θ v66 then 1 else 0) (r68 : x68 = 0 ∨ x68 = 1), (∀ (c71 : ¬ x68 = 0), W2_X22_kindOf_98 ω d G l0 (0) Θ Q) ∧ (∀ (c71 : x68 = 0), ∀ (v75 : Int) (e75 : v75 = gt (vv Θ l0) 10) (r75 : -1 ≤ v75), ∀ (v78 : Int) (h78 : Str Θ v78 [56, 98, 105, 116]), (kd Θ v75 = 2) ∧ ∀ (x80 : Int) (e80 : x80 = if vv Θ v75 = vv Θ v78 then 1 else 0) (r80 : x80 = 0 ∨ x80 = 1), (∀ (c83 : ¬ x80 = 0), W2_X22_kindOf_98 ω d G l0 (0) Θ Q) ∧ (∀ (c83 : x80 = 0), ∀ (v87 : Int) (e87 : v87 = gt (vv Θ l0) 10) (r87 : -1 ≤ v87), ∀ (v90 : Int) (h90 : Str Θ v90 [98, 105, 110, 97, 114, 121]), (kd Θ v87 = 2) ∧ ∀ (x92 : Int) (e92 : x92 = if vv Θ v87 = vv Θ v90 then 1 else 0) (r92 : x92 = 0 ∨ x92 = 1), (∀ (c95 : x92 = 0), W2_X22_kindOf_103 ω d G l0 0 (0) Θ Q) ∧ (∀ (c95 : ¬ x92 = 0), W2_X22_kindOf_98 ω d G l0 (0) Θ Q))))) ∧ (∀ (c21 : ¬ x18 = 0), ∃ G25 : Nat, (0 + G25 ≤ G) ∧ w2_X22_boundary ω (d - 1) G25 l0 Θ (fun x25 Θ25 => ∀ (L25 : Le Θ Θ25) (r25 : -1 ≤ x25), (kd Θ25 x25 = 2) ∧ (0 + G25 ≤ G) ∧ ∀ (x28 : Int) (e28 : x28 = if vv Θ25 x25 = [] then 1 else 0) (r28 : x28 = 0 ∨ x28 = 1), (∀ (c31 : ¬ x28 = 0), Q 0 Θ25) ∧ (∀ (c31 : x28 = 0), ∃ G35 : Nat, (0 + G25 + G35 ≤ G) ∧ w2_X22_boundary ω (d - 1) G35 l0 Θ25 (fun x35 Θ35 => ∀ (L35 : Le Θ25 Θ35) (r35 : -1 ≤ x35), (kd Θ35 x35 = 2) ∧ (2 ≤ d) ∧ (0 + G25 + G35 ≤ G) ∧ ∀ (x38 : Int) (e38 : x38 = len (vv Θ35 x35)) (r38 : -2147483648 ≤ x38 ∧ x38 < 2147483648), (∀ (c43 : 70 < x38), Q 0 Θ35) ∧ (∀ (c43 : x38 ≤ 70), Q 1 Θ35)))))) ∧ (∀ (c6 : v1 = 8), Q 0 Θ)) : w2_X22_kindOf ω d G l0 Θ Q := sorry
set_option maxHeartbeats 4000000 in
theorem s2_X22_kindOf_98 {ω : AO} {d G : Nat} {l0 : Int} {g : Nat} {Θ : Th} {Q : Int → Th → Prop} (hB : W2_X22_kindOf_103 ω d G l0 1 (g) Θ Q) : W2_X22_kindOf_98 ω d G l0 g Θ Q := sorry
set_option maxHeartbeats 4000000 in
theorem s2_X22_kindOf_103 {ω : AO} {d G : Nat} {l0 s0 : Int} {g : Nat} {Θ : Th} {Q : Int → Th → Prop} (hB : (kd Θ l0 = 35) ∧ ∀ (v105 : Int) (e105 : v105 = gt (vv Θ l0) 9) (r105 : -1 ≤ v105), ∀ (v108 : Int) (h108 : Str Θ v108 [109, 101, 115, 115, 97, 103, 101, 47, 114, 102, 99, 56, 50, 50]), (1 ≤ d) ∧ (kd Θ v105 = 2) ∧ (2 ≤ d) ∧ (g ≤ G) ∧ ∀ (x110 : Int) (e110 : x110 = if vv Θ v105 = vv Θ v108 then 1 else 0) (r110 : x110 = 0 ∨ x110 = 1), (∀ (c113 : x110 = 0), Q 0 Θ) ∧ (∀ (c113 : ¬ x110 = 0), (-2147483648 ≤ s0 ∧ s0 < 2147483648) ∧ (∀ (c117 : s0 = 0), Q 0 Θ) ∧ (∀ (c117 : ¬ s0 = 0), Q 2 Θ))) : W2_X22_kindOf_103 ω d G l0 s0 g Θ Q := sorry
set_option maxHeartbeats 4000000 in
theorem s2_X22_isText {ω : AO} {d G : Nat} {l0 : Int} {Θ : Th} {Q : Int → Th → Prop} (hB : (kd Θ l0 = 35) ∧ ∀ (v1 : Int) (e1 : v1 = gt (vv Θ l0) 8) (r1 : -2147483648 ≤ v1 ∧ v1 < 2147483648), (∀ (c4 : ¬ v1 = 0), Q 0 Θ) ∧ (∀ (c4 : v1 = 0), ∀ (v8 : Int) (e8 : v8 = gt (vv Θ l0) 13) (r8 : 0 ≤ v8 ∧ v8 < 2), (∀ (c11 : ¬ v8 = 0), Q 0 Θ) ∧ (∀ (c11 : v8 = 0), ∀ (v15 : Int) (e15 : v15 = gt (vv Θ l0) 9) (r15 : -1 ≤ v15), ∀ (v18 : Int) (h18 : Str Θ v18 [116, 101, 120, 116, 47]), (1 ≤ d) ∧ (kd Θ v15 = 2) ∧ ∃ G20 : Nat, (0 + G20 ≤ G) ∧ w2_J2_startsWith_2 ω (d - 1) G20 v15 v18 Θ (fun x20 Θ20 => ∀ (L20 : Le Θ Θ20) (r20 : x20 = 0 ∨ x20 = 1), (∀ (c23 : x20 = 0), (0 + G20 ≤ G) ∧ Q 0 Θ20) ∧ (∀ (c23 : ¬ x20 = 0), (0 + G20 ≤ G) ∧ Q 1 Θ20))))) : w2_X22_isText ω d G l0 Θ Q := sorry
set_option maxHeartbeats 4000000 in
theorem s2_X22_boundary {ω : AO} {d G : Nat} {l0 : Int} {Θ : Th} {Q : Int → Th → Prop} (hB : (kd Θ l0 = 35) ∧ ∀ (v1 : Int) (e1 : v1 = gt (vv Θ l0) 12) (r1 : -1 ≤ v1), ∀ (v4 : Int) (h4 : Str Θ v4 [98, 111, 117, 110, 100, 97, 114, 121]), (1 ≤ d) ∧ (kd Θ v1 = 37) ∧ ∃ G6 : Nat, (0 + G6 ≤ G) ∧ w2_X24_find ω (d - 1) G6 v1 v4 Θ (fun x6 Θ6 => ∀ (L6 : Le Θ Θ6) (r6 : -1 ≤ x6), (∀ (c11 : 0 ≤ x6), (0 + G6 ≤ G) ∧ (-1 ≤ x6) ∧ Q x6 Θ6) ∧ (∀ (c11 : x6 < 0), ∀ (v14 : Int) (h14 : Str Θ6 v14 []), (0 + G6 ≤ G) ∧ (-1 ≤ v14) ∧ Q v14 Θ6))) : w2_X22_boundary ω d G l0 Θ Q := sorry
def W2_X22_init_63 (ω : AO) (d G : Nat) (l0 l1 s0 s1 : Int) (g : Nat) (Θ : Th) (Q : Th → Prop) : Prop := Hid (SJ2 ω yX22_init cX22_init 8 none d G (fun Sz Θz => (eU Sz (q2U ω Θz Q))) 63 [(2, l0), (2, l1), vN, vN, vN, vN, vN, vN] [(0, s0), (2, s1)] g Θ)
def W2_X22_init_121 (ω : AO) (d G : Nat) (l0 l6 : Int) (g : Nat) (Θ : Th) (Q : Th → Prop) : Prop := Hid (SJ2 ω yX22_init cX22_init 8 none d G (fun Sz Θz => (eU Sz (q2U ω Θz Q))) 121 [(2, l0), vN, vN, vN, vN, vN, (2, l6), vN] [] g Θ)
def W2_X22_init_170 (ω : AO) (d G : Nat) (l0 l7 : Int) (g : Nat) (Θ : Th) (Q : Th → Prop) : Prop := Hid (SJ2 ω yX22_init cX22_init 8 none d G (fun Sz Θz => (eU Sz (q2U ω Θz Q))) 170 [(2, l0), vN, vN, vN, vN, vN, vN, (2, l7)] [] g Θ)
def W2_X22_init_186 (ω : AO) (d G : Nat) (l0 l7 : Int) (g : Nat) (Θ : Th) (Q : Th → Prop) : Prop := Hid (SJ2 ω yX22_init cX22_init 8 none d G (fun Sz Θz => (eU Sz (q2U ω Θz Q))) 186 [(2, l0), vN, vN, vN, vN, vN, vN, (2, l7)] [] g Θ)
def W2_X22_init_199 (ω : AO) (d G : Nat) (l0 s0 s1 : Int) (g : Nat) (Θ : Th) (Q : Th → Prop) : Prop := Hid (SJ2 ω yX22_init cX22_init 8 none d G (fun Sz Θz => (eU Sz (q2U ω Θz Q))) 199 [(2, l0), vN, vN, vN, vN, vN, vN, vN] [(2, s0), (2, s1)] g Θ)
set_option maxHeartbeats 4000000 in
theorem s2_X22_init {ω : AO} {d G : Nat} {l0 l1 l2 l3 l4 l5 : Int} {Θ : Th} {Q : Th → Prop} (hB : (1 ≤ d) ∧ (0 ≤ l0) ∧ (0 + 1 ≤ G) ∧ ∀ (v5 : Int) (Θ5 : Th) (u5 : nt Θ ≤ v5 ∧ 0 ≤ v5) (b5 : Bl Θ) (t5 : Θ5 = nu Θ v5 (203, [], 0, 0)), (4 ≤ d) ∧ ∀ (k9 : Int) (Θ9 : Th) (t9 : Θ9 = uq Θ5 v5 (3, [], 0, k9)), (kd Θ9 l0 = 35) ∧ (¬ fz Θ9 l0) ∧ ∀ (Θ12 : Th) (t12 : Θ12 = pf Θ9 l0 5 v5), (0 + 1 + 1 ≤ G) ∧ ∀ (v16 : Int) (Θ16 : Th) (u16 : nt Θ12 ≤ v16 ∧ 0 ≤ v16) (b16 : Bl Θ12) (t16 : Θ16 = nu Θ12 v16 (203, [], 0, 0)), ∀ (k20 : Int) (Θ20 : Th) (t20 : Θ20 = uq Θ16 v16 (3, [], 0, k20)), (¬ fz Θ20 l0) ∧ ∀ (Θ23 : Th) (t23 : Θ23 = pf Θ20 l0 6 v16), (¬ fz Θ23 l0) ∧ (-1 ≤ l2) ∧ ∀ (Θ28 : Th) (t28 : Θ28 = pf Θ23 l0 0 l2), (¬ fz Θ28 l0) ∧ (-2147483648 ≤ l3 ∧ l3 < 2147483648) ∧ ∀ (Θ33 : Th) (t33 : Θ33 = pf Θ28 l0 1 l3), (¬ fz Θ33 l0) ∧ (-2147483648 ≤ l4 ∧ l4 < 2147483648) ∧ ∀ (Θ39 : Th) (t39 : Θ39 = pf Θ33 l0 3 l4), (¬ fz Θ39 l0) ∧ (-2147483648 ≤ l5 ∧ l5 < 2147483648) ∧ ∀ (Θ45 : Th) (t45 : Θ45 = pf Θ39 l0 4 l5), (∀ (c50 : 0 ≤ l2), (kd Θ45 l2 = 35) ∧ ∀ (v58 : Int) (e58 : v58 = gt (vv Θ45 l2) 2) (r58 : -2147483648 ≤ v58 ∧ v58 < 2147483648), W2_X22_init_63 ω d G l0 l1 ((v58 + 1)) l0 (0 + 1 + 1) Θ45 Q) ∧ (∀ (c50 : l2 < 0), W2_X22_init_63 ω d G l0 l1 0 l0 (0 + 1 + 1) Θ45 Q)) : w2_X22_init ω d G l0 l1 l2 l3 l4 l5 Θ Q := sorry
set_option maxHeartbeats 4000000 in
theorem s2_X22_init_63 {ω : AO} {d G : Nat} {l0 l1 s0 s1 : Int} {g : Nat} {Θ : Th} {Q : Th → Prop} (hB : (kd Θ s1 = 35) ∧ (¬ fz Θ s1) ∧ (-2147483648 ≤ s0 ∧ s0 < 2147483648) ∧ ∀ (Θ63 : Th) (t63 : Θ63 = pf Θ s1 2 s0), (1 ≤ d) ∧ (kd Θ63 l0 = 35) ∧ ∃ G68 : Nat, (g + G68 ≤ G) ∧ w2_X22_head ω (d - 1) G68 l0 l1 Θ63 (fun Θ68 => ∀ (L68 : Le Θ63 Θ68), (g + G68 + 1 ≤ G) ∧ ∀ (v72 : Int) (Θ72 : Th) (u72 : nt Θ68 ≤ v72 ∧ 0 ≤ v72) (b72 : Bl Θ68) (t72 : Θ72 = nu Θ68 v72 (37, [-1, -1], 0, 0)), ∀ (v77 : Int) (h77 : Str Θ72 v77 [99, 111, 110, 116, 101, 110, 116, 45, 116, 121, 112, 101]), ∃ G79 : Nat, (g + G68 + 1 + G79 ≤ G) ∧ w2_X22_value ω (d - 1) G79 l0 v77 Θ72 (fun x79 Θ79 => ∀ (L79 : Le Θ72 Θ79) (r79 : -1 ≤ x79), ∃ G82 : Nat, (g + G68 + 1 + G79 + G82 ≤ G) ∧ w2_X24_init ω (d - 1) G82 v72 x79 Θ79 (fun Θ82 => ∀ (L82 : Le Θ79 Θ82), (¬ fz Θ82 l0) ∧ ∀ (Θ85 : Th) (t85 : Θ85 = pf Θ82 l0 12 v72), (g + G68 + 1 + G79 + G82 + 1 ≤ G) ∧ ∀ (v88 : Int) (Θ88 : Th) (u88 : nt Θ85 ≤ v88 ∧ 0 ≤ v88) (b88 : Bl Θ85) (t88 : Θ88 = nu Θ85 v88 (37, [-1, -1], 0, 0)), ∀ (v93 : Int) (h93 : Str Θ88 v93 [99, 111, 110, 116, 101, 110, 116, 45, 100, 105, 115, 112, 111, 115, 105, 116, 105, 111, 110]), ∃ G95 : Nat, (g + G68 + 1 + G79 + G82 + 1 + G95 ≤ G) ∧ w2_X22_value ω (d - 1) G95 l0 v93 Θ88 (fun x95 Θ95 => ∀ (L95 : Le Θ88 Θ95) (r95 : -1 ≤ x95), ∃ G98 : Nat, (g + G68 + 1 + G79 + G82 + 1 + G95 + G98 ≤ G) ∧ w2_X24_init ω (d - 1) G98 v88 x95 Θ95 (fun Θ98 => ∀ (L98 : Le Θ95 Θ98), ∀ (v106 : Int) (e106 : v106 = gt (vv Θ98 l0) 12) (r106 : -1 ≤ v106), (kd Θ98 v106 = 37) ∧ ∀ (v109 : Int) (e109 : v109 = gt (vv Θ98 v106) 0) (r109 : -1 ≤ v109), (kd Θ98 v109 = 2) ∧ (len (vv Θ98 v109) ≤ 1000000) ∧ (10 ≤ d) ∧ (g + G68 + 1 + G79 + G82 + 1 + G95 + G98 + (5 * len (vv Θ98 v109) + 30).toNat ≤ G) ∧ ∀ (x112 : Int) (Θ112 : Th) (e112 : NewS Θ98 Θ112 x112 ((vv Θ98 v109).map lowB)), ∃ G115 : Nat, (g + G68 + 1 + G79 + G82 + 1 + G95 + G98 + (5 * len (vv Θ98 v109) + 30).toNat + G115 ≤ G) ∧ w2_X22_typeOf ω (d - 1) G115 l0 x112 Θ112 (fun x115 Θ115 => ∀ (L115 : Le Θ112 Θ115) (r115 : -1 ≤ x115), (¬ fz Θ115 l0) ∧ (-1 ≤ x115) ∧ ∀ (Θ118 : Th) (t118 : Θ118 = pf Θ115 l0 9 x115), W2_X22_init_121 ω d G l0 v88 (g + G68 + 1 + G79 + G82 + 1 + G95 + G98 + (5 * len (vv Θ98 v109) + 30).toNat + G115) Θ118 Q))))))) : W2_X22_init_63 ω d G l0 l1 s0 s1 g Θ Q := sorry
set_option maxHeartbeats 4000000 in
theorem s2_X22_init_121 {ω : AO} {d G : Nat} {l0 l6 : Int} {g : Nat} {Θ : Th} {Q : Th → Prop} (hB : (g + 1 ≤ G) ∧ ∀ (v122 : Int) (Θ122 : Th) (u122 : nt Θ ≤ v122 ∧ 0 ≤ v122) (b122 : Bl Θ) (t122 : Θ122 = nu Θ v122 (37, [-1, -1], 0, 0)), ∀ (v127 : Int) (h127 : Str Θ122 v127 [99, 111, 110, 116, 101, 110, 116, 45, 116, 114, 97, 110, 115, 102, 101, 114, 45, 101, 110, 99, 111, 100, 105, 110, 103]), (1 ≤ d) ∧ (kd Θ122 l0 = 35) ∧ ∃ G129 : Nat, (g + 1 + G129 ≤ G) ∧ w2_X22_value ω (d - 1) G129 l0 v127 Θ122 (fun x129 Θ129 => ∀ (L129 : Le Θ122 Θ129) (r129 : -1 ≤ x129), ∃ G132 : Nat, (g + 1 + G129 + G132 ≤ G) ∧ w2_X24_init ω (d - 1) G132 v122 x129 Θ129 (fun Θ132 => ∀ (L132 : Le Θ129 Θ132), ∀ (v135 : Int) (e135 : v135 = gt (vv Θ132 v122) 0) (r135 : -1 ≤ v135), (kd Θ132 v135 = 2) ∧ (len (vv Θ132 v135) ≤ 1000000) ∧ (10 ≤ d) ∧ (g + 1 + G129 + G132 + (5 * len (vv Θ132 v135) + 30).toNat ≤ G) ∧ ∀ (x138 : Int) (Θ138 : Th) (e138 : NewS Θ132 Θ138 x138 ((vv Θ132 v135).map lowB)), (¬ fz Θ138 l0) ∧ ∀ (Θ141 : Th) (t141 : Θ141 = pf Θ138 l0 10 x138), (kd Θ141 l6 = 37) ∧ ∀ (v147 : Int) (e147 : v147 = gt (vv Θ141 l6) 0) (r147 : -1 ≤ v147), (kd Θ141 v147 = 2) ∧ (len (vv Θ141 v147) ≤ 1000000) ∧ (g + 1 + G129 + G132 + (5 * len (vv Θ132 v135) + 30).toNat + (5 * len (vv Θ141 v147) + 30).toNat ≤ G) ∧ ∀ (x150 : Int) (Θ150 : Th) (e150 : NewS Θ141 Θ150 x150 ((vv Θ141 v147).map lowB)), ∀ (v153 : Int) (h153 : Str Θ150 v153 [97, 116, 116, 97, 99, 104, 109, 101, 110, 116]), (2 ≤ d) ∧ ∀ (x155 : Int) (e155 : x155 = if vv Θ150 x150 = vv Θ150 v153 then 1 else 0) (r155 : x155 = 0 ∨ x155 = 1), (¬ fz Θ150 l0) ∧ ∀ (Θ158 : Th) (t158 : Θ158 = pf Θ150 l0 13 x155), ∀ (v163 : Int) (h163 : Str Θ158 v163 [102, 105, 108, 101, 110, 97, 109, 101]), ∃ G165 : Nat, (g + 1 + G129 + G132 + (5 * len (vv Θ132 v135) + 30).toNat + (5 * len (vv Θ141 v147) + 30).toNat + G165 ≤ G) ∧ w2_X24_find ω (d - 1) G165 l6 v163 Θ158 (fun x165 Θ165 => ∀ (L165 : Le Θ158 Θ165) (r165 : -1 ≤ x165), W2_X22_init_170 ω d G l0 x165 (g + 1 + G129 + G132 + (5 * len (vv Θ132 v135) + 30).toNat + (5 * len (vv Θ141 v147) + 30).toNat + G165) Θ165 Q)))) : W2_X22_init_121 ω d G l0 l6 g Θ Q := sorry
set_option maxHeartbeats 4000000 in
theorem s2_X22_init_170 {ω : AO} {d G : Nat} {l0 l7 : Int} {g : Nat} {Θ : Th} {Q : Th → Prop} (hB : (∀ (c172 : 0 ≤ l7), W2_X22_init_186 ω d G l0 l7 (g) Θ Q) ∧ (∀ (c172 : l7 < 0), (kd Θ l0 = 35) ∧ ∀ (v176 : Int) (e176 : v176 = gt (vv Θ l0) 12) (r176 : -1 ≤ v176), ∀ (v179 : Int) (h179 : Str Θ v179 [110, 97, 109, 101]), (1 ≤ d) ∧ (kd Θ v176 = 37) ∧ ∃ G181 : Nat, (g + G181 ≤ G) ∧ w2_X24_find ω (d - 1) G181 v176 v179 Θ (fun x181 Θ181 => ∀ (L181 : Le Θ Θ181) (r181 : -1 ≤ x181), W2_X22_init_186 ω d G l0 x181 (g + G181) Θ181 Q))) : W2_X22_init_170 ω d G l0 l7 g Θ Q := sorry
set_option maxHeartbeats 4000000 in
theorem s2_X22_init_186 {ω : AO} {d G : Nat} {l0 l7 : Int} {g : Nat} {Θ : Th} {Q : Th → Prop} (hB : (∀ (c189 : 0 ≤ l7), W2_X22_init_199 ω d G l0 l7 l0 (g) Θ Q) ∧ (∀ (c189 : l7 < 0), ∀ (v192 : Int) (h192 : Str Θ v192 []), W2_X22_init_199 ω d G l0 v192 l0 (g) Θ Q)) : W2_X22_init_186 ω d G l0 l7 g Θ Q := sorry
set_option maxHeartbeats 4000000 in
theorem s2_X22_init_199 {ω : AO} {d G : Nat} {l0 s0 s1 : Int} {g : Nat} {Θ : Th} {Q : Th → Prop} (hB : (kd Θ s1 = 35) ∧ (¬ fz Θ s1) ∧ (-1 ≤ s0) ∧ ∀ (Θ199 : Th) (t199 : Θ199 = pf Θ s1 11 s0), (1 ≤ d) ∧ (kd Θ199 l0 = 35) ∧ ∃ G204 : Nat, (g + G204 ≤ G) ∧ w2_X22_kindOf ω (d - 1) G204 l0 Θ199 (fun x204 Θ204 => ∀ (L204 : Le Θ199 Θ204) (r204 : -2147483648 ≤ x204 ∧ x204 < 2147483648), (¬ fz Θ204 l0) ∧ ∀ (Θ207 : Th) (t207 : Θ207 = pf Θ204 l0 8 x204), (g + G204 ≤ G) ∧ Q Θ207)) : W2_X22_init_199 ω d G l0 s0 s1 g Θ Q := sorry
/-! 67.ab.lean.txt -/
/-! lines -/
set_option maxRecDepth 100000
theorem idx_lnE {l : List Int} {k : Int} (h : 0 ≤ k ∧ k ≤ len l) : (idx l 10 k < 0 → lnE l k = len l) ∧ (0 ≤ idx l 10 k → lnE l k = idx l 10 k ∧ lnE l k < len l) := sorry
/-- the lines of a text -/
def lsG (l : List Int) (k : Int) : List (List Int) := if h : 0 ≤ k ∧ k < len l then sub l k (lnC l k) :: lsG l (max k (lnE l k) + 1) else []
termination_by (len l - k).toNat
def LiO (Θ : Th) (a : Int) (ls : List (List Int)) : Prop := ∃ p rs c e, Fx Θ a (34, [p], 0, 0) ∧ Fx Θ p (3, rs, c, e) ∧ all2 (fun r l => Str Θ r l) rs ls
section LSX
variable {ω : AO} {d G : Nat} {Θ Θ1 : Th} {a s : Int} {l : List Int} {ls : List (List Int)}
theorem LiO.le (h : LiO Θ a ls) (L : Le Θ Θ1) : LiO Θ1 a ls := sorry
theorem u_X21_init {Q : Th → Prop} (hd : 8 ≤ d) (h : xo Θ a = (34, [-1], 0, 0)) (hf : ¬ fz Θ a) (hs : Str Θ s l) (hb : byt l) (hl : len l ≤ 500000) (hG : 9 * len l + 40 ≤ (G : Int))
    (hQ : ∀ Θ2, GrX (· = a) Θ Θ2 → LiO (fr Θ2 (fun b => b = a ∨ kd Θ b = 0)) a (lsG l 0) → Q (fr Θ2 (fun b => b = a ∨ kd Θ b = 0))) : w2_X21_init ω d G a s Θ Q := sorry
end LSX

/-! 67.ac.lean.txt -/
/-! entities: fields by name -/
set_option maxRecDepth 100000
/-- the value of a name, or nothing -/
def vlF (ps : List (List Int × List Int)) (n : List Int) : List Int := match fdF ps n with
  | some v => v
  | none => []
def kpF (ps : List (List Int × List Int)) (n v : List Int) : List (List Int × List Int) := if (fdF ps n).isSome = true then ps else ps ++ [(n, v)]
section ENT
variable {ω : AO} {d G : Nat} {Θ Θ1 : Th} {a p t b c e : Int} {F rs n v m : List Int} {ps : List (List Int × List Int)}
theorem u_X22_find {Q : Int → Th → Prop} (hd : 4 ≤ d) (h : xo Θ a = (35, F, 0, 0)) (h6 : gt F 6 = p) (hp : xo Θ p = (3, rs, c, e)) (hw : all2 (PrO Θ) rs ps) (hl : len rs ≤ 1000000) (ht : Str Θ t n) (hQ1 : ∀ r v, fdF ps n = some v → Str Θ r v → 0 ≤ r → Q r Θ) (hQ0 : fdF ps n = none → Q (-1) Θ) : w2_X22_find ω d G a t Θ Q := sorry
theorem u_X22_value {Q : Int → Th → Prop} (hd : 5 ≤ d) (h : xo Θ a = (35, F, 0, 0)) (h6 : gt F 6 = p) (hp : xo Θ p = (3, rs, c, e)) (hw : all2 (PrO Θ) rs ps) (hl : len rs ≤ 1000000) (ht : Str Θ t n) (hQ : ∀ r, Str Θ r (vlF ps n) → Q r Θ) : w2_X22_value ω d G a t Θ Q := sorry
theorem u_X22_keep {Q : Th → Prop} (hd : 9 ≤ d) (h : xo Θ a = (35, F, 0, 0)) (h6 : gt F 6 = p) (hp : xo Θ p = (3, rs, c, e)) (hfp : ¬ fz Θ p) (hw : all2 (PrO Θ) rs ps) (hl : len rs ≤ 1000000) (ht : Str Θ t n) (hb : kd Θ b = 1) (hv : vv Θ b = m) (hm : len m ≤ 1000000) (hc : c ≤ adC c (len rs) ∧ adC c (len rs) ≤ 60000000)
    (hG : fdF ps n = none → len m + 6 + (adC c (len rs) - c) ≤ (G : Int)) (hQ : ∀ Θ' rs' c' e', GrX (· = p) Θ Θ' → xo Θ' p = (3, rs', c', e') → ¬ fz Θ' p → all2 (PrO Θ') rs' (kpF ps n m) → ((rs' = rs ∧ c' = c ∧ (fdF ps n).isSome = true) ∨ ∃ r, rs' = rs ++ [r] ∧ c' = adC c (len rs) ∧ fdF ps n = none) → Q Θ') : w2_X22_keep ω d G a t b Θ Q := sorry
theorem u_X22_keep0 {Q : Th → Prop} (hQ : Q Θ) : w2_X22_keep ω d G a (-1) b Θ Q := sorry
def BNDY : List Int := [98, 111, 117, 110, 100, 97, 114, 121]
theorem u_X22_boundary {f : List Int} {Q : Int → Th → Prop} (hd : 5 ≤ d) (h : xo Θ a = (35, F, 0, 0)) (h12 : gt F 12 = p) (hv : VaO Θ p f ps) (hl : ps.length ≤ 1000000) (hQ : ∀ r, Str Θ r (vlF ps BNDY) → Q r Θ) : w2_X22_boundary ω d G a Θ Q := sorry
end ENT

/-! 67.ad.lean.txt -/
/-! entities: types, kinds -/
set_option maxRecDepth 100000
def PLN : List Int := [116, 101, 120, 116, 47, 112, 108, 97, 105, 110]
def RFC : List Int := [109, 101, 115, 115, 97, 103, 101, 47, 114, 102, 99, 56, 50, 50]
def DIG : List Int := [109, 117, 108, 116, 105, 112, 97, 114, 116, 47, 100, 105, 103, 101, 115, 116]
def MUL : List Int := [109, 117, 108, 116, 105, 112, 97, 114, 116, 47]
def tyB (t : List Int) : Bool := decide (0 < idx t 47 1 ∧ idx t 47 1 + 1 < len t ∧ idx t 32 0 < 0 ∧ idx t 9 0 < 0)
/-- the type that is told, or what stands for it (g: within a digest) -/
def tyF (t : List Int) (g : Bool) : List Int := if tyB t = true then t else if g = true then RFC else PLN
/-- what is around: whether it is a digest -/
def inD (Θ : Th) (i : Int) (g : Bool) : Prop := (i = -1 ∧ g = false) ∨ ∃ F ty, xo Θ i = (35, F, 0, 0) ∧ 0 ≤ i ∧ Str Θ (gt F 9) ty ∧ g = decide (gt F 8 = 1 ∧ ty = DIG)
def plC (cd : List Int) : Bool := decide (cd = [] ∨ cd = [55, 98, 105, 116] ∨ cd = [56, 98, 105, 116] ∨ cd = [98, 105, 110, 97, 114, 121])
/-- 0 a leaf, 1 of parts, 2 an enclosed mail -/
def kdF (deep : Int) (ty cd bd : List Int) : Int :=
  if deep = 8 then 0 else if pAtB ty MUL 0 = true then (if bd ≠ [] ∧ len bd ≤ 70 then 1 else 0) else if ty = RFC ∧ plC cd = true then 2 else 0
section ETY
variable {ω : AO} {d G : Nat} {Θ : Th} {a p t i : Int} {F ty cd : List Int} {ps : List (List Int × List Int)} {g : Bool}
theorem u_X22_typeOf {l : List Int} {Q : Int → Th → Prop} (hd : 7 ≤ d) (h : xo Θ a = (35, F, 0, 0)) (h0 : gt F 0 = i) (hi : inD Θ i g) (ht : Str Θ t l) (hl : len l ≤ 1000000) (hQ : ∀ r, Str Θ r (tyF l g) → Q r Θ) : w2_X22_typeOf ω d G a t Θ Q := sorry
end ETY

/-! 67.ae.lean.txt -/
/-! entities: kinds -/
set_option maxRecDepth 100000
def TXT : List Int := [116, 101, 120, 116, 47]
section EKN
variable {ω : AO} {d G : Nat} {Θ : Th} {a p t i : Int} {F ty cd f : List Int} {ps : List (List Int × List Int)}
theorem u_X22_kindOf {Q : Int → Th → Prop} (hd : 7 ≤ d) (h : xo Θ a = (35, F, 0, 0)) (h9 : Str Θ (gt F 9) ty) (h10 : Str Θ (gt F 10) cd) (h12 : gt F 12 = p) (hv : VaO Θ p f ps) (hl : ps.length ≤ 1000000) (hQ : Q (kdF (gt F 2) ty cd (vlF ps BNDY)) Θ) : w2_X22_kindOf ω d G a Θ Q := sorry
theorem u_X22_isText {Q : Int → Th → Prop} (hd : 5 ≤ d) (h : xo Θ a = (35, F, 0, 0)) (h9 : Str Θ (gt F 9) ty) (hQ1 : gt F 8 = 0 → gt F 13 = 0 → pAt ty TXT 0 → Q 1 Θ) (hQ0 : ¬ (gt F 8 = 0 ∧ gt F 13 = 0 ∧ pAt ty TXT 0) → Q 0 Θ) : w2_X22_isText ω d G a Θ Q := sorry
end EKN

/-! 67.af.lean.txt -/
/-! entities: the head, what it says -/
set_option maxRecDepth 100000
def hnB (x : Int) : Bool := decide (chNm x)
/-- keep what is pending -/
def kpO (nm : Option (List Int)) (v : List Int) (ps : List (List Int × List Int)) : List (List Int × List Int) := match nm with
  | some n => kpF ps n v
  | none => ps
/-- the fields of a head and where the body begins -/
def hdR : List (List Int) → Int → Option (List Int) → List Int → List (List Int × List Int) → List (List Int × List Int) × Int
  | [], k, nm, v, ps => (kpO nm v ps, k)
  | x :: r, k, nm, v, ps =>
    if nm.isSome = true ∧ x ≠ [] ∧ chBl (gt x 0) then hdR r (k + 1) nm (v ++ x) ps
    else if 0 < scn hnB x 0 ∧ scn hnB x 0 < len x ∧ gt x (scn hnB x 0) = 58 then
      hdR r (k + 1) (some ((sub x 0 (scn hnB x 0)).map lowB)) (sub x (scn hnB x 0 + 1) (len x)) (kpO nm v ps)
    else (kpO nm v ps, if x = [] then k + 1 else k)
section EHD
variable {ω : AO} {d G g : Nat} {Θ : Th} {l0 l1 l2 l3 l4 x : Int} {m : List Int} {Q : Th → Prop}
theorem u_hd76 (hd : 6 ≤ d) (hx : Str Θ x m) (hl : len m ≤ 1000000) (hg : g ≤ G) (hQ : W2_X22_head_105 ω d G l0 l1 l2 l3 l4 x (scn hnB m 0) g Θ Q) : W2_X22_head_76 ω d G l0 l1 l2 l3 l4 x 0 g Θ Q := sorry
end EHD

/-! 67.ag.lean.txt -/
/-! entities: the head, the walk -/
set_option maxRecDepth 100000
section FRW
variable {ω : AO} {S : AS} {Θ : Th} {A : Int → Prop}
theorem R2.frw (h : R2 ω S Θ) : R2 ω S (fr Θ A) := sorry
/-- objects are frozen within a cut -/
theorem frS (A : Int → Prop) {y : MethodName} {cc : ByteArray} {nL : Nat} {ret : Option FieldType} {d G : Nat} {P : AS → Th → Option AV → AS → Prop} {pc : Nat} {vs st : List AV} {g : Nat} (h : Hid (SJ2 ω y cc nL ret d G P pc vs st g (fr Θ A))) : Hid (SJ2 ω y cc nL ret d G P pc vs st g Θ) := sorry
end FRW
def szL (ls : List (List Int)) : Int := match ls with
  | [] => 0
  | x :: r => len x + 1 + szL r
/-- the bytes of the first k lines -/
def szF (ls : List (List Int)) (k : Int) : Int := szL (ls.take k.toNat)
theorem szL_app {a b : List (List Int)} : szL (a ++ b) = szL a + szL b := sorry
theorem szL_nn {a : List (List Int)} : (a.length : Int) ≤ szL a := sorry
theorem szF_mono {ls : List (List Int)} {j k : Int} (h : j ≤ k) : szF ls j ≤ szF ls k := sorry
theorem szF_nn {ls : List (List Int)} {k : Int} : 0 ≤ szF ls k := sorry
theorem szF_step {ls : List (List Int)} {k : Int} {x : List Int} (h0 : 0 ≤ k) (h : ls[k.toNat]? = some x) : szF ls (k + 1) = szF ls k + len x + 1 := sorry
theorem hdR_ge : ∀ (L : List (List Int)) (k : Int) (nm : Option (List Int)) (v : List Int) (ps : List (List Int × List Int)), k ≤ (hdR L k nm v ps).2 := sorry
def totP (ps : List (List Int × List Int)) : Int := match ps with
  | [] => 0
  | q :: r => len q.2 + totP r
theorem totP_app {a b : List (List Int × List Int)} : totP (a ++ b) = totP a + totP b := sorry
theorem kpO_tot {nm : Option (List Int)} {v : List Int} {ps : List (List Int × List Int)} : totP (kpO nm v ps) ≤ totP ps + len v := sorry
theorem kpO_byt {nm : Option (List Int)} {v : List Int} {ps : List (List Int × List Int)} (h : ∀ q, q ∈ ps → byt q.2) (hv : byt v) : ∀ q, q ∈ kpO nm v ps → byt q.2 := sorry
def nmO (Θ : Th) (t : Int) (nm : Option (List Int)) : Prop := match nm with
  | none => t = -1
  | some n => Str Θ t n
theorem nmO.le {Θ Θ1 : Th} {t : Int} {nm : Option (List Int)} (h : nmO Θ t nm) (L : Le Θ Θ1) : nmO Θ1 t nm := sorry
/-- the capacity of the fields then -/
def kpC (nm : Option (List Int)) (ps : List (List Int × List Int)) (c k : Int) : Int := match nm with
  | none => c
  | some n => if (fdF ps n).isSome = true then c else adC c k
section HDW
variable {ω : AO} {d G : Nat} {Θ Θ1 : Th} {a p s t b c e f e0 : Int} {F rs v : List Int} {ps : List (List Int × List Int)} {nm : Option (List Int)} {ls : List (List Int)}
theorem u_keepO {Q : Th → Prop} (hd : 9 ≤ d) (h : xo Θ a = (35, F, 0, 0)) (h6 : gt F 6 = p) (hp : xo Θ p = (3, rs, c, e)) (hfp : ¬ fz Θ p) (hw : all2 (PrO Θ) rs ps) (hl : len rs ≤ 1000000) (ht : nmO Θ t nm) (hb : kd Θ b = 1) (hv : vv Θ b = v) (hm : len v ≤ 1000000) (hc : c ≤ adC c (len rs) ∧ adC c (len rs) ≤ 60000000)
    (hG : len v + 6 + (kpC nm ps c (len rs) - c) ≤ (G : Int)) (hQ : ∀ Θ' rs' c' e', GrX (· = p) Θ Θ' → xo Θ' p = (3, rs', c', e') → ¬ fz Θ' p → all2 (PrO Θ') rs' (kpO nm v ps) → c' = kpC nm ps c (len rs) → ((rs' = rs ∧ c' = c) ∨ ∃ r, rs' = rs ++ [r] ∧ c' = adC c (len rs)) → Q Θ') : w2_X22_keep ω d G a t b Θ Q := sorry
/-- what holds within a head -/
def hdI (Θ Θ1 : Th) (ls : List (List Int)) (p f k nr b : Int) (nm : Option (List Int)) (v rs : List Int) (ps : List (List Int × List Int)) (c e cb : Int) (g gp : Nat) : Prop :=
  GrX (· = p) Θ Θ1 ∧ xo Θ1 p = (3, rs, c, e) ∧ ¬ fz Θ1 p ∧ all2 (PrO Θ1) rs ps ∧ LI rs c 0 gp ∧ len rs ≤ szF ls k - szF ls f ∧ nmO Θ1 nr nm ∧ (kd Θ b = 0 ∧ xo Θ1 b = (1, v, cb, 0) ∧ ¬ fz Θ1 b) ∧ (len v ≤ cb ∧ cb ≤ 2 * len v + 18 ∧ totP ps + len v ≤ szF ls k - szF ls f) ∧ (byt v ∧ ∀ q, q ∈ ps → byt q.2) ∧ (g : Int) + 3 * len v ≤ 40 * (szF ls k - szF ls f) + c + cb
theorem totP_nn {ps : List (List Int × List Int)} : 0 ≤ totP ps := sorry
theorem u_hd176 {Q : Th → Prop} {k nr : Int} {g gp : Nat} {cb e : Int} {T : List (List Int × List Int) × Int} (hd : 15 ≤ d) (ha : xo Θ a = (35, F, 0, 0)) (hfa : ¬ fz Θ a) (nap : a ≠ p) (hkp : kd Θ p = 3) (h4 : gt F 4 = t) (h6 : gt F 6 = p) (hl : LiO Θ s ls) (hf0 : 0 ≤ f) (hft : f ≤ t) (htl : t ≤ (ls.length : Int)) (hsz : szF ls t ≤ 90000) (ht9 : t ≤ 1000000)
    (hk : f ≤ k ∧ k ≤ t) (hI : hdI Θ Θ1 ls p f k nr b nm v rs ps c e cb g gp) (hT0 : t ≤ k → T = (kpO nm v ps, k)) (hT1 : ∀ x, k < t → ls[k.toNat]? = some x → T = (kpO nm v ps, if x = [] then k + 1 else k))
    (hG : 42 * (szF ls T.2 - szF ls f) + 40 ≤ (G : Int))
    (hQ : ∀ Θ' rs' c' e', GrX (fun b => b = a ∨ b = p) Θ Θ' → xo Θ' a = (35, F.set 7 T.2, 0, 0) → ¬ fz Θ' a → xo Θ' p = (3, rs', c', e') → ¬ fz Θ' p → all2 (PrO Θ') rs' T.1 → totP T.1 ≤ szF ls T.2 - szF ls f → (∀ q, q ∈ T.1 → byt q.2) → len rs' ≤ 100000 → Q Θ') : W2_X22_head_176 ω d G a s nr b k g Θ1 Q := sorry
theorem u_X22_head {Q : Th → Prop} (hd : 15 ≤ d) (ha : xo Θ a = (35, F, 0, 0)) (hfa : ¬ fz Θ a) (h3 : gt F 3 = f) (h4 : gt F 4 = t) (h6 : gt F 6 = p) (hp : xo Θ p = (3, [], 0, e0)) (hfp : ¬ fz Θ p) (hl : LiO Θ s ls) (hlb : ∀ x, x ∈ ls → byt x) (hf0 : 0 ≤ f) (hft : f ≤ t) (htl : t ≤ (ls.length : Int)) (hsz : szF ls t ≤ 90000) (ht9 : t ≤ 1000000)
    (hG : 42 * (szF ls (hdR ((ls.drop f.toNat).take (t - f).toNat) f none [] []).2 - szF ls f) + 40 ≤ (G : Int))
    (hQ : ∀ Θ' rs' c' e', GrX (fun b => b = a ∨ b = p) Θ Θ' → xo Θ' a = (35, F.set 7 (hdR ((ls.drop f.toNat).take (t - f).toNat) f none [] []).2, 0, 0) → ¬ fz Θ' a → xo Θ' p = (3, rs', c', e') → ¬ fz Θ' p → all2 (PrO Θ') rs' (hdR ((ls.drop f.toNat).take (t - f).toNat) f none [] []).1 →
      totP (hdR ((ls.drop f.toNat).take (t - f).toNat) f none [] []).1 ≤ szF ls (hdR ((ls.drop f.toNat).take (t - f).toNat) f none [] []).2 - szF ls f → (∀ q, q ∈ (hdR ((ls.drop f.toNat).take (t - f).toNat) f none [] []).1 → byt q.2) → len rs' ≤ 100000 → Q Θ') : w2_X22_head ω d G a s Θ Q := sorry
end HDW

/-! 67.ah.lean.txt -/
/-! entities: as they are made -/
set_option maxRecDepth 100000
def CTY : List Int := [99, 111, 110, 116, 101, 110, 116, 45, 116, 121, 112, 101]
def CDI : List Int := [99, 111, 110, 116, 101, 110, 116, 45, 100, 105, 115, 112, 111, 115, 105, 116, 105, 111, 110]
def CTE : List Int := [99, 111, 110, 116, 101, 110, 116, 45, 116, 114, 97, 110, 115, 102, 101, 114, 45, 101, 110, 99, 111, 100, 105, 110, 103]
def ATT : List Int := [97, 116, 116, 97, 99, 104, 109, 101, 110, 116]
def FNM : List Int := [102, 105, 108, 101, 110, 97, 109, 101]
def NAM : List Int := [110, 97, 109, 101]
/-- what an entity is, by its fields -/
def enTy (ps : List (List Int × List Int)) (g : Bool) : List Int := tyF ((vaH (vlF ps CTY)).map lowB) g
def enCd (ps : List (List Int × List Int)) : List Int := (vaH (vlF ps CTE)).map lowB
def enHg (ps : List (List Int × List Int)) : Bool := decide ((vaH (vlF ps CDI)).map lowB = ATT)
def enNm (ps : List (List Int × List Int)) : List Int := match fdF (vaP (vlF ps CDI)) FNM with
  | some n => n
  | none => vlF (vaP (vlF ps CTY)) NAM
def enKd (dp : Int) (ps : List (List Int × List Int)) (g : Bool) : Int := kdF dp (enTy ps g) (enCd ps) (vlF (vaP (vlF ps CTY)) BNDY)
theorem vl_some {ps : List (List Int × List Int)} {n v : List Int} (h : fdF ps n = some v) : vlF ps n = v := by unfold vlF; rw [h]
theorem vl_none {ps : List (List Int × List Int)} {n : List Int} (h : fdF ps n = none) : vlF ps n = [] := by unfold vlF; rw [h]
theorem vlF_cons {q : List Int × List Int} {r : List (List Int × List Int)} {n : List Int} : vlF (q :: r) n = if q.1 = n then q.2 else vlF r n := sorry
theorem fd1 {n : List Int} : ∀ (ps : List (List Int × List Int)), len (vlF ps n) ≤ totP ps := sorry
theorem fd2 {n m : List Int} (h : n ≠ m) : ∀ (ps : List (List Int × List Int)), len (vlF ps n) + len (vlF ps m) ≤ totP ps := sorry
theorem fd3 {n m o : List Int} (h : n ≠ m) (h2 : n ≠ o) (h3 : m ≠ o) : ∀ (ps : List (List Int × List Int)), len (vlF ps n) + len (vlF ps m) + len (vlF ps o) ≤ totP ps := sorry
theorem byt_vl {n : List Int} : ∀ {ps : List (List Int × List Int)}, (∀ q, q ∈ ps → byt q.2) → byt (vlF ps n) := sorry
theorem paF_ln {ps : List (List Int × List Int)} {it : List Int} : (paF ps it).length ≤ ps.length + 1 := sorry
theorem pa_fold : ∀ (its : List (List Int)) (ps : List (List Int × List Int)), (its.foldl paF ps).length ≤ ps.length + its.length := sorry
theorem vaG_ln {l : List Int} : ∀ (N : Nat) (k : Int), (len l + 1 - k).toNat = N → 0 ≤ k → (vaG l k).length ≤ N := sorry
theorem vaP_ln {l : List Int} : (vaP l).length ≤ (len l).toNat + 1 := sorry
theorem vaH_ln {l : List Int} : len (vaH l) ≤ len l := sorry
/-- what holds of the fields of a head -/
def hdOk (ps : List (List Int × List Int)) : Prop := totP ps ≤ 90000 ∧ (∀ q, q ∈ ps → byt q.2) ∧ ps.length ≤ 100000
section ENI
variable {ω : AO} {d G : Nat} {Θ Θ1 Θ2 : Th} {a p s t b c e f i no dp pr fl v : Int} {F rs : List Int} {ps : List (List Int × List Int)} {ls : List (List Int)} {gd : Bool} {cl : Cl}
/-- what is around an entity -/
def moO (Θ : Th) (i : Int) (g : Bool) (dp : Int) : Prop := (i = -1 ∧ g = false ∧ dp = 0) ∨ ∃ F ty, Fx Θ i (35, F, 0, 0) ∧ 0 ≤ i ∧ Str Θ (gt F 9) ty ∧ g = decide (gt F 8 = 1 ∧ ty = DIG) ∧ dp = gt F 2 + 1
theorem moO.le (h : moO Θ i gd dp) (L : Le Θ Θ1) : moO Θ1 i gd dp := sorry
theorem moO.ind (h : moO Θ i gd dp) : inD Θ i gd := sorry
/-- an entity -/
def EnO (Θ : Th) (a i no dp f t pr : Int) (ps : List (List Int × List Int)) (bd : Int) (g : Bool) : Prop := ∃ fl rs c e ty cd nm ct,
  Fx Θ a (35, [i, no, dp, f, t, pr, fl, bd, enKd dp ps g, ty, cd, nm, ct, if enHg ps = true then 1 else 0], 0, 0) ∧ Fx Θ fl (3, rs, c, e) ∧ all2 (PrO Θ) rs ps ∧ Str Θ ty (enTy ps g) ∧ Str Θ cd (enCd ps) ∧ Str Θ nm (enNm ps) ∧ VaO Θ ct (vaH (vlF ps CTY)) (vaP (vlF ps CTY))
theorem EnO.le {bd : Int} (h : EnO Θ a i no dp f t pr ps bd gd) (L : Le Θ Θ1) : EnO Θ1 a i no dp f t pr ps bd gd := sorry
/-- a new object of which what was made is frozen -/
theorem val_fr (u : nt Θ ≤ v) (b : Bl Θ) (t : Θ1 = nu Θ v cl) (g : GrX (· = v) Θ1 Θ2) : Gr Θ (fr Θ2 (fun b => b = v ∨ kd Θ1 b = 0)) := sorry
theorem u_en199 {Q : Th → Prop} {g : Nat} {bd ty cd ct n x : Int} (hd : 8 ≤ d) (h : xo Θ1 a = (35, [i, no, dp, f, t, pr, fl, bd, 0, ty, cd, x, ct, if enHg ps = true then 1 else 0], 0, 0)) (hf : ¬ fz Θ1 a) (h9 : Str Θ1 ty (enTy ps gd)) (h10 : Str Θ1 cd (enCd ps)) (h12 : VaO Θ1 ct (vaH (vlF ps CTY)) (vaP (vlF ps CTY))) (hlv : (vaP (vlF ps CTY)).length ≤ 1000000)
    (hn : Str Θ1 n (enNm ps)) (hn0 : 0 ≤ n) (hg : g ≤ G) (hQ : ∀ Θ', GrX (· = a) Θ1 Θ' → xo Θ' a = (35, [i, no, dp, f, t, pr, fl, bd, enKd dp ps gd, ty, cd, n, ct, if enHg ps = true then 1 else 0], 0, 0) → Q Θ') : W2_X22_init_199 ω d G a n a g Θ1 Q := sorry
theorem u_en170 {Q : Th → Prop} {g : Nat} {bd ty cd ct x dv r : Int} (hd : 8 ≤ d) (h : xo Θ1 a = (35, [i, no, dp, f, t, pr, fl, bd, 0, ty, cd, x, ct, if enHg ps = true then 1 else 0], 0, 0)) (hf : ¬ fz Θ1 a) (h9 : Str Θ1 ty (enTy ps gd)) (h10 : Str Θ1 cd (enCd ps)) (h12 : VaO Θ1 ct (vaH (vlF ps CTY)) (vaP (vlF ps CTY))) (hlv : (vaP (vlF ps CTY)).length ≤ 1000000)
    (hr : (∃ v, fdF (vaP (vlF ps CDI)) FNM = some v ∧ Str Θ1 r v ∧ 0 ≤ r) ∨ (fdF (vaP (vlF ps CDI)) FNM = none ∧ r = -1)) (hg : g ≤ G) (hQ : ∀ Θ' n, GrX (· = a) Θ1 Θ' → Str Θ' n (enNm ps) → xo Θ' a = (35, [i, no, dp, f, t, pr, fl, bd, enKd dp ps gd, ty, cd, n, ct, if enHg ps = true then 1 else 0], 0, 0) → Q Θ') : W2_X22_init_170 ω d G a r g Θ1 Q := sorry
theorem u_en121 {Q : Th → Prop} {g : Nat} {bd ty ct dv : Int} (hd : 14 ≤ d) (h : xo Θ a = (35, [i, no, dp, f, t, pr, fl, bd, 0, ty, -1, -1, ct, 0], 0, 0)) (hf : ¬ fz Θ a) (hfl : Fx Θ fl (3, rs, c, e)) (hw : all2 (PrO Θ) rs ps) (hl : len rs ≤ 1000000) (hpb : ∀ q, q ∈ ps → byt q.2) (hps : totP ps ≤ 90000) (h9 : Str Θ ty (enTy ps gd)) (h12 : VaO Θ ct (vaH (vlF ps CTY)) (vaP (vlF ps CTY)))
    (hdv : VaO Θ dv (vaH (vlF ps CDI)) (vaP (vlF ps CDI))) (hg : (g : Int) + 115 * len (vlF ps CTE) + 5 * len (vlF ps CDI) + 210 ≤ (G : Int)) (hQ : ∀ Θ' n cd, GrX (· = a) Θ Θ' → Str Θ' n (enNm ps) → Str Θ' cd (enCd ps) → xo Θ' a = (35, [i, no, dp, f, t, pr, fl, bd, enKd dp ps gd, ty, cd, n, ct, if enHg ps = true then 1 else 0], 0, 0) → Q Θ') : W2_X22_init_121 ω d G a dv g Θ Q := sorry
/-- what the head of an entity says -/
def enH (ls : List (List Int)) (f t : Int) : List (List Int × List Int) × Int := hdR ((ls.drop f.toNat).take (t - f).toNat) f none [] []
theorem hdR_le : ∀ (L : List (List Int)) (k : Int) (nm : Option (List Int)) (v : List Int) (ps : List (List Int × List Int)), (hdR L k nm v ps).2 ≤ k + (L.length : Int) := sorry
theorem enH_in {T : List (List Int × List Int) × Int} (hT : enH ls f t = T) (h : f ≤ t) : f ≤ T.2 ∧ T.2 ≤ t := sorry
theorem u_en63 {Q : Th → Prop} {Θ0 : Th} {g : Nat} {e0 : Int} {T : List (List Int × List Int) × Int} (hd : 16 ≤ d) (hB : GrX (· = a) Θ0 Θ) (hk0 : kd Θ0 a = 35) (hkf : kd Θ0 fl = 0) (h : xo Θ a = (35, [i, no, 0, f, t, pr, fl, 0, 0, -1, -1, -1, -1, 0], 0, 0)) (hf : ¬ fz Θ a) (hfl : xo Θ fl = (3, [], 0, e0)) (hff : ¬ fz Θ fl) (hmo : moO Θ i gd dp) (hdp : 0 ≤ dp ∧ dp ≤ 100) (hs : LiO Θ s ls) (hlb : ∀ x, x ∈ ls → byt x) (hf0 : 0 ≤ f) (hft : f ≤ t) (htl : t ≤ (ls.length : Int)) (hsz : szF ls t ≤ 90000) (ht9 : t ≤ 1000000) (hT : enH ls f t = T)
    (hg : (g : Int) + 157 * (szF ls T.2 - szF ls f) + 598 ≤ (G : Int))
    (hQ : ∀ Θ', GrX (· = a) Θ0 Θ' → EnO (fr Θ' (fun b => b = a)) a i no dp f t pr T.1 T.2 gd → (∀ b c, b ≠ a → b ≠ fl → xo Θ b = c → 0 < c.1 → xo Θ' b = c ∧ (¬ fz Θ b → ¬ fz Θ' b)) → hdOk T.1 → Q Θ') : W2_X22_init_63 ω d G a s dp a g Θ Q := sorry
theorem u_X22_init {Q : Th → Prop} {T : List (List Int × List Int) × Int} (hd : 16 ≤ d) (h : xo Θ a = (35, [-1, 0, 0, 0, 0, -1, -1, 0, 0, -1, -1, -1, -1, 0], 0, 0)) (hf : ¬ fz Θ a) (hmo : moO Θ i gd dp) (hdp : 0 ≤ dp ∧ dp ≤ 100) (hno : inI no) (hs : LiO Θ s ls) (hlb : ∀ x, x ∈ ls → byt x) (hf0 : 0 ≤ f) (hft : f ≤ t) (htl : t ≤ (ls.length : Int)) (hsz : szF ls t ≤ 90000) (ht9 : t ≤ 1000000) (hT : enH ls f t = T)
    (hG : 157 * (szF ls T.2 - szF ls f) + 600 ≤ (G : Int))
    (hQ : ∀ Θ' pr e, GrX (· = a) Θ Θ' → EnO (fr Θ' (fun b => b = a)) a i no dp f t pr T.1 T.2 gd → xo Θ' pr = (3, [], 0, e) → ¬ fz Θ' pr → kd Θ pr = 0 → pr ≠ a → hdOk T.1 → Q (fr Θ' (fun b => b = a))) : w2_X22_init ω d G a s i no f t Θ Q := sorry
end ENI

/-! 68.aa.lean.txt -/
/-! segments -/
set_option maxRecDepth 100000
def w2_X20_isMark (ω : AO) (d G : Nat) (l0 l1 l2 : Int) (Θ : Th) (Q : Int → Th → Prop) : Prop := Hid (∀ S, bel S → R2 ω S Θ → Ctr ω yX20_isMark cX20_isMark 5 (some .boolean) d G [(2, l0), (0, l1), (2, l2)] S (eZ S (q2 ω Θ Q)))
def w2_X20_begin (ω : AO) (d G : Nat) (l0 l1 l2 l3 : Int) (Θ : Th) (Q : Th → Prop) : Prop := Hid (∀ S, bel S → R2 ω S Θ → Ctr ω yX20_begin cX20_begin 10 none d G [(2, l0), (2, l1), (0, l2), (0, l3)] S (eU S (q2U ω Θ Q)))
def w2_X25_init (ω : AO) (d G : Nat) (l0 : Int) (Θ : Th) (Q : Th → Prop) : Prop := Hid (∀ S, bel S → R2 ω S Θ → Ctr ω yX25_init cX25_init 1 none d G [(2, l0)] S (eU S (q2U ω Θ Q)))
def w2_X25_isPlain (ω : AO) (d G : Nat) (l0 : Int) (Θ : Th) (Q : Int → Th → Prop) : Prop := Hid (∀ S, bel S → R2 ω S Θ → Ctr ω yX25_isPlain cX25_isPlain 3 (some .boolean) d G [(2, l0)] S (eZ S (q2 ω Θ Q)))
def w2_X25_of (ω : AO) (d G : Nat) (l0 : Int) (Θ : Th) (Q : Int → Th → Prop) : Prop := Hid (∀ S, bel S → R2 ω S Θ → Ctr ω yX25_of cX25_of 6 (some (.object "MailWorks$Shown")) d G [(2, l0)] S (eA S (q2 ω Θ Q)))
def w2_X20_init (ω : AO) (d G : Nat) (l0 l1 : Int) (Θ : Th) (Q : Th → Prop) : Prop := Hid (∀ S, bel S → R2 ω S Θ → Ctr ω yX20_init cX20_init 4 none d G [(2, l0), (2, l1)] S (eU S (q2U ω Θ Q)))
def w2_X20_body (ω : AO) (d G : Nat) (l0 l1 : Int) (Θ : Th) (Q : Int → Th → Prop) : Prop := Hid (∀ S, bel S → R2 ω S Θ → Ctr ω yX20_body cX20_body 4 (some (.object "java/lang/String")) d G [(2, l0), (2, l1)] S (eA S (q2 ω Θ Q)))
def w2_X20_whole (ω : AO) (d G : Nat) (l0 : Int) (Θ : Th) (Q : Int → Th → Prop) : Prop := Hid (∀ S, bel S → R2 ω S Θ → Ctr ω yX20_whole cX20_whole 1 (some (.object "MailWorks$Entity")) d G [(2, l0)] S (eA S (q2 ω Θ Q)))
def w2_X20_value (ω : AO) (d G : Nat) (l0 l1 : Int) (Θ : Th) (Q : Int → Th → Prop) : Prop := Hid (∀ S, bel S → R2 ω S Θ → Ctr ω yX20_value cX20_value 3 (some (.object "java/lang/String")) d G [(2, l0), (2, l1)] S (eA S (q2 ω Θ Q)))
def w2_X20_hasType (ω : AO) (d G : Nat) (l0 l1 : Int) (Θ : Th) (Q : Int → Th → Prop) : Prop := Hid (∀ S, bel S → R2 ω S Θ → Ctr ω yX20_hasType cX20_hasType 4 (some .boolean) d G [(2, l0), (2, l1)] S (eZ S (q2 ω Θ Q)))
theorem lr_X20_26_33 : FLkR RX20 26 33 3 (.object "MailWorks$Lines") := sorry
theorem lr_X20_30_34 : FLkR RX20 30 34 0 (.object "java/util/ArrayList") := sorry
theorem lm_X20_41 : VLk RX20 41 3 yJ7_get cJ7_get 2 (some (.object "java/lang/Object")) 1 := sorry
theorem lm_X20_129 : SLk RX20 129 yX12_begins cX12_begins 3 (some .boolean) 3 := sorry
theorem lm_X20_135 : VLk RX20 135 2 yJ2_length cJ2_length 1 (some .int) 0 := sorry
theorem lm_X20_138 : VLk RX20 138 2 yJ2_charAt cJ2_charAt 2 (some .char) 1 := sorry
theorem lm_X20_142 : SLk RX20 142 yX12_isBlank cX12_isBlank 1 (some .boolean) 1 := sorry
theorem lr_X20_12_33 : FLkR RX20 12 33 0 (.object "java/util/ArrayList") := sorry
theorem lm_X20_33 : VLk RX20 33 3 yJ7_size cJ7_size 1 (some .int) 0 := sorry
theorem lm_X20_100 : ILk RX20 100 yX22_init cX22_init 8 5 := sorry
theorem lm_X20_97 : VLk RX20 97 3 yJ7_add cJ7_add 2 (some .boolean) 1 := sorry
theorem lr_X20_103_35 : FLkR RX20 103 35 5 (.object "java/util/ArrayList") := sorry
theorem lr_X20_73_35 : FLkR RX20 73 35 8 .int := sorry
theorem lr_X20_106_35 : FLkR RX20 106 35 7 .int := sorry
theorem lm_X20_37 : SLk RX20 37 yX20_begin cX20_begin 10 none 4 := sorry
theorem lm_X20_111 : ILk RX20 111 yJ1_init cJ1_init 1 0 := sorry
theorem lm_X20_114 : VLk RX20 114 1 yJ1_append_3 cJ1_append_3 2 (some (.object "java/lang/StringBuilde\x72")) 1 := sorry
theorem lm_X20_118 : VLk RX20 118 35 yX22_boundary cX22_boundary 2 (some (.object "java/lang/String")) 0 := sorry
theorem lm_X20_122 : VLk RX20 122 1 yJ1_toString cJ1_toString 1 (some (.object "java/lang/String")) 0 := sorry
theorem lm_X20_125 : VLk RX20 125 33 yX20_isMark cX20_isMark 5 (some .boolean) 2 := sorry
theorem lm_X25_11 : ILk RX25 11 yJ7_init cJ7_init 1 0 := sorry
theorem lf_X25_12_38 : FLk RX25 12 38 0 (.object "java/util/ArrayList") true := sorry
theorem lr_X25_12_38 : FLkR RX25 12 38 0 (.object "java/util/ArrayList") := sorry
theorem lm_X25_18 : VLk RX25 18 3 yJ7_size cJ7_size 1 (some .int) 0 := sorry
theorem lm_X25_22 : VLk RX25 22 3 yJ7_get cJ7_get 2 (some (.object "java/lang/Object")) 1 := sorry
theorem lr_X25_28_35 : FLkR RX25 28 35 9 (.object "java/lang/String") := sorry
theorem lm_X25_34 : VLk RX25 34 2 yJ2_equals cJ2_equals 3 (some .boolean) 1 := sorry
theorem lm_X25_40 : ILk RX25 40 yX25_init cX25_init 1 0 := sorry
theorem lm_X25_41 : VLk RX25 41 35 yX22_isText cX22_isText 1 (some .boolean) 0 := sorry
theorem lm_X25_45 : VLk RX25 45 3 yJ7_add cJ7_add 2 (some .boolean) 1 := sorry
theorem lr_X25_48_35 : FLkR RX25 48 35 5 (.object "java/util/ArrayList") := sorry
theorem lr_X25_67_35 : FLkR RX25 67 35 8 .int := sorry
theorem lm_X25_51 : SLk RX25 51 yX25_of cX25_of 6 (some (.object "MailWorks$Shown")) 1 := sorry
theorem lm_X25_55 : VLk RX25 55 3 yJ7_isEmpty cJ7_isEmpty 1 (some .boolean) 0 := sorry
theorem lm_X25_60 : VLk RX25 60 3 yJ7_addAll cJ7_addAll 6 (some .boolean) 1 := sorry
theorem lm_X25_64 : VLk RX25 64 38 yX25_isPlain cX25_isPlain 3 (some .boolean) 0 := sorry
theorem lm_X20_11 : ILk RX20 11 yJ7_init cJ7_init 1 0 := sorry
theorem lf_X20_12_33 : FLk RX20 12 33 0 (.object "java/util/ArrayList") true := sorry
theorem lf_X20_18_33 : FLk RX20 18 33 2 (.object "java/util/ArrayList") true := sorry
theorem lm_X20_23 : ILk RX20 23 yX21_init cX21_init 5 1 := sorry
theorem lf_X20_26_33 : FLk RX20 26 33 3 (.object "MailWorks$Lines") true := sorry
theorem lm_X20_47 : SLk RX20 47 yX25_of cX25_of 6 (some (.object "MailWorks$Shown")) 1 := sorry
theorem lr_X20_53_38 : FLkR RX20 53 38 0 (.object "java/util/ArrayList") := sorry
theorem lf_X20_56_33 : FLk RX20 56 33 1 (.object "java/util/ArrayList") true := sorry
theorem lm_X20_59 : VLk RX20 59 3 yJ7_iterator cJ7_iterator 1 (some (.object "java/util/Iterato\x72")) 0 := sorry
theorem lf_X20_63_14i : FLkI RX20 63 14 ⟨"java/util/Iterato\x72", "hasNext", "()Z"⟩ yJ31_hasNext cJ31_hasNext 1 (some .boolean) 0 := sorry
theorem lf_X20_69_14i : FLkI RX20 69 14 ⟨"java/util/Iterato\x72", "next", "()Ljava/lang/Object;"⟩ yJ31_next cJ31_next 3 (some (.object "java/lang/Object")) 0 := sorry
theorem lr_X20_56_33 : FLkR RX20 56 33 1 (.object "java/util/ArrayList") := sorry
theorem lm_X20_77 : VLk RX20 77 3 yJ7_contains cJ7_contains 2 (some .boolean) 1 := sorry
theorem lr_X20_81_35 : FLkR RX20 81 35 13 .boolean := sorry
theorem lr_X20_85_35 : FLkR RX20 85 35 9 (.object "java/lang/String") := sorry
theorem lm_X20_91 : VLk RX20 91 2 yJ2_startsWith_2 cJ2_startsWith_2 2 (some .boolean) 1 := sorry
theorem lr_X20_18_33 : FLkR RX20 18 33 2 (.object "java/util/ArrayList") := sorry
theorem lr_X20_146_35 : FLkR RX20 146 35 4 .int := sorry
theorem lm_X20_149 : VLk RX20 149 1 yJ1_append cJ1_append 2 (some (.object "java/lang/StringBuilde\x72")) 1 := sorry
theorem lm_X20_152 : VLk RX20 152 33 yX20_whole cX20_whole 1 (some (.object "MailWorks$Entity")) 0 := sorry
theorem lm_X20_156 : VLk RX20 156 35 yX22_find cX22_find 3 (some (.object "java/lang/String")) 1 := sorry
theorem lm_X20_162 : VLk RX20 162 2 yJ2_indexOf_3 cJ2_indexOf_3 2 (some .int) 1 := sorry
def W2_X20_isMark_32 (ω : AO) (d G : Nat) (l3 l4 : Int) (g : Nat) (Θ : Th) (Q : Int → Th → Prop) : Prop := Hid (SJ2 ω yX20_isMark cX20_isMark 5 (some .boolean) d G (fun Sz Θz => (eZ Sz (q2 ω Θz Q))) 32 [vN, vN, vN, (2, l3), (0, l4)] [] g Θ)
def W2_X20_isMark_59 (ω : AO) (d G : Nat) (l3 l4 : Int) (g : Nat) (Θ : Th) (Q : Int → Th → Prop) : Prop := Hid (SJ2 ω yX20_isMark cX20_isMark 5 (some .boolean) d G (fun Sz Θz => (eZ Sz (q2 ω Θz Q))) 59 [vN, vN, vN, (2, l3), (0, l4)] [] g Θ)
set_option maxHeartbeats 4000000 in
theorem s2_X20_isMark {ω : AO} {d G : Nat} {l0 l1 l2 : Int} {Θ : Th} {Q : Int → Th → Prop} (hB : (kd Θ l0 = 33) ∧ ∀ (v1 : Int) (e1 : v1 = gt (vv Θ l0) 3) (r1 : -1 ≤ v1), (kd Θ v1 = 34) ∧ ∀ (v4 : Int) (e4 : v4 = gt (vv Θ v1) 0) (r4 : -1 ≤ v4), (1 ≤ d) ∧ (kd Θ v4 = 3) ∧ (0 ≤ l1 ∧ l1 < len (vv Θ v4)) ∧ (3 ≤ d) ∧ ∀ (x8 : Int) (e8 : x8 = gt (vv Θ v4) l1) (r8 : -1 ≤ x8), (x8 < 0 ∨ kd Θ x8 ∈ [2]) ∧ (kd Θ x8 = 2) ∧ (kd Θ l2 = 2) ∧ (-1000000000 ≤ (0 : Int) ∧ (0 : Int) ≤ 1000000000) ∧ (7 ≤ d) ∧ ∀ (x18 : Int) (e18 : x18 = if pAtB (vv Θ x8) (vv Θ l2) (0 : Int) then 1 else 0) (r18 : x18 = 0 ∨ x18 = 1), (∀ (c21 : ¬ x18 = 0), (2 ≤ d) ∧ ∀ (x27 : Int) (e27 : x27 = len (vv Θ l2)) (r27 : -2147483648 ≤ x27 ∧ x27 < 2147483648), W2_X20_isMark_32 ω d G x8 x27 (0) Θ Q) ∧ (∀ (c21 : x18 = 0), Q 0 Θ)) : w2_X20_isMark ω d G l0 l1 l2 Θ Q := sorry
set_option maxHeartbeats 4000000 in
theorem s2_X20_isMark_32 {ω : AO} {d G : Nat} {l3 l4 : Int} {g : Nat} {Θ : Th} {Q : Int → Th → Prop} (hB : (1 ≤ d) ∧ (kd Θ l3 = 2) ∧ (2 ≤ d) ∧ (g ≤ G) ∧ ∀ (x35 : Int) (e35 : x35 = len (vv Θ l3)) (r35 : -2147483648 ≤ x35 ∧ x35 < 2147483648), (-2147483648 ≤ l4 ∧ l4 < 2147483648) ∧ (∀ (c38 : x35 ≤ l4), W2_X20_isMark_59 ω d G l3 l4 (g) Θ Q) ∧ (∀ (c38 : l4 < x35), (0 ≤ l4 ∧ l4 < len (vv Θ l3)) ∧ (5 ≤ d) ∧ ∀ (x44 : Int) (e44 : x44 = gt (vv Θ l3) l4) (r44 : 0 ≤ x44 ∧ x44 < 65536), ∀ (x47 : Int) (e47 : x47 = if chBl x44 then 1 else 0) (r47 : x47 = 0 ∨ x47 = 1), (∀ (c50 : x47 = 0), W2_X20_isMark_59 ω d G l3 l4 (g) Θ Q) ∧ (∀ (c50 : ¬ x47 = 0), W2_X20_isMark_32 ω d G l3 ((l4 + 1)) (g) Θ Q))) : W2_X20_isMark_32 ω d G l3 l4 g Θ Q := sorry
set_option maxHeartbeats 4000000 in
theorem s2_X20_isMark_59 {ω : AO} {d G : Nat} {l3 l4 : Int} {g : Nat} {Θ : Th} {Q : Int → Th → Prop} (hB : (1 ≤ d) ∧ (kd Θ l3 = 2) ∧ (2 ≤ d) ∧ (g ≤ G) ∧ ∀ (x62 : Int) (e62 : x62 = len (vv Θ l3)) (r62 : -2147483648 ≤ x62 ∧ x62 < 2147483648), (-2147483648 ≤ l4 ∧ l4 < 2147483648) ∧ (∀ (c65 : ¬ l4 = x62), Q 0 Θ) ∧ (∀ (c65 : l4 = x62), Q 1 Θ)) : W2_X20_isMark_59 ω d G l3 l4 g Θ Q := sorry
def W2_X20_begin_60 (ω : AO) (d G : Nat) (l0 l3 l4 : Int) (g : Nat) (Θ : Th) (Q : Th → Prop) : Prop := Hid (SJ2 ω yX20_begin cX20_begin 10 none d G (fun Sz Θz => (eU Sz (q2U ω Θz Q))) 60 [(2, l0), vN, vN, (0, l3), (2, l4), vN, vN, vN, vN, vN] [] g Θ)
def W2_X20_begin_81 (ω : AO) (d G : Nat) (l0 l3 l4 : Int) (g : Nat) (Θ : Th) (Q : Th → Prop) : Prop := Hid (SJ2 ω yX20_begin cX20_begin 10 none d G (fun Sz Θz => (eU Sz (q2U ω Θz Q))) 81 [(2, l0), vN, vN, (0, l3), (2, l4), vN, vN, vN, vN, vN] [] g Θ)
def W2_X20_begin_116 (ω : AO) (d G : Nat) (l0 l3 l4 l5 : Int) (g : Nat) (Θ : Th) (Q : Th → Prop) : Prop := Hid (SJ2 ω yX20_begin cX20_begin 10 none d G (fun Sz Θz => (eU Sz (q2U ω Θz Q))) 116 [(2, l0), vN, vN, (0, l3), (2, l4), (2, l5), vN, vN, vN, vN] [] g Θ)
def W2_X20_begin_138 (ω : AO) (d G : Nat) (l0 l3 l4 l5 l6 : Int) (g : Nat) (Θ : Th) (Q : Th → Prop) : Prop := Hid (SJ2 ω yX20_begin cX20_begin 10 none d G (fun Sz Θz => (eU Sz (q2U ω Θz Q))) 138 [(2, l0), vN, vN, (0, l3), (2, l4), (2, l5), (2, l6), vN, vN, vN] [] g Θ)
def W2_X20_begin_148 (ω : AO) (d G : Nat) (l0 l3 l4 l5 l6 l7 l8 : Int) (g : Nat) (Θ : Th) (Q : Th → Prop) : Prop := Hid (SJ2 ω yX20_begin cX20_begin 10 none d G (fun Sz Θz => (eU Sz (q2U ω Θz Q))) 148 [(2, l0), vN, vN, (0, l3), (2, l4), (2, l5), (2, l6), (0, l7), (0, l8), vN] [] g Θ)
def W2_X20_begin_183 (ω : AO) (d G : Nat) (l0 l3 l4 l5 l6 l7 l8 l9 : Int) (g : Nat) (Θ : Th) (Q : Th → Prop) : Prop := Hid (SJ2 ω yX20_begin cX20_begin 10 none d G (fun Sz Θz => (eU Sz (q2U ω Θz Q))) 183 [(2, l0), vN, vN, (0, l3), (2, l4), (2, l5), (2, l6), (0, l7), (0, l8), (0, l9)] [] g Θ)
def W2_X20_begin_198 (ω : AO) (d G : Nat) (l0 l3 l4 l5 l6 l8 l9 : Int) (g : Nat) (Θ : Th) (Q : Th → Prop) : Prop := Hid (SJ2 ω yX20_begin cX20_begin 10 none d G (fun Sz Θz => (eU Sz (q2U ω Θz Q))) 198 [(2, l0), vN, vN, (0, l3), (2, l4), (2, l5), (2, l6), vN, (0, l8), (0, l9)] [] g Θ)
set_option maxHeartbeats 4000000 in
theorem s2_X20_begin {ω : AO} {d G : Nat} {l0 l1 l2 l3 : Int} {Θ : Th} {Q : Th → Prop} (hB : (kd Θ l0 = 33) ∧ ∀ (v1 : Int) (e1 : v1 = gt (vv Θ l0) 0) (r1 : -1 ≤ v1), (1 ≤ d) ∧ (kd Θ v1 = 3) ∧ ∀ (x4 : Int) (e4 : x4 = len (vv Θ v1)) (r4 : -2147483648 ≤ x4 ∧ x4 < 2147483648), (∀ (c9 : ¬ x4 = 60), (0 + 3 ≤ G) ∧ ∀ (v13 : Int) (Θ13 : Th) (u13 : nt Θ ≤ v13 ∧ 0 ≤ v13) (b13 : Bl Θ) (t13 : Θ13 = nu Θ v13 (35, [-1, 0, 0, 0, 0, -1, -1, 0, 0, -1, -1, -1, -1, 0], 0, 0)), ∀ (v18 : Int) (e18 : v18 = gt (vv Θ13 l0) 3) (r18 : -1 ≤ v18), ∀ (v23 : Int) (e23 : v23 = gt (vv Θ13 l0) 0) (r23 : -1 ≤ v23), (kd Θ13 v23 = 3) ∧ ∀ (x26 : Int) (e26 : x26 = len (vv Θ13 v23)) (r26 : -2147483648 ≤ x26 ∧ x26 < 2147483648), ∃ G31 : Nat, (0 + 3 + G31 ≤ G) ∧ w2_X22_init ω (d - 1) G31 v13 v18 l1 x26 l2 l3 Θ13 (fun Θ31 => ∀ (L31 : Le Θ13 Θ31), ∀ (v37 : Int) (e37 : v37 = gt (vv Θ31 l0) 0) (r37 : -1 ≤ v37), (kd Θ31 v37 = 3) ∧ (¬ fz Θ31 v37) ∧ (rf Θ31 v13) ∧ (adC (cp Θ31 v37) (len (vv Θ31 v37)) ≤ 60000000) ∧ (7 ≤ d) ∧ (0 + 3 + G31 + (adC (cp Θ31 v37) (len (vv Θ31 v37)) - cp Θ31 v37).toNat ≤ G) ∧ ∀ (k42 : Int) (Θ42 : Th) (t42 : Θ42 = uq Θ31 v37 (3, vv Θ31 v37 ++ [v13], adC (cp Θ31 v37) (len (vv Θ31 v37)), k42)), (∀ (c47 : l1 < 0), W2_X20_begin_60 ω d G l0 l3 v13 (0 + 3 + G31 + (adC (cp Θ31 v37) (len (vv Θ31 v37)) - cp Θ31 v37).toNat) Θ42 Q) ∧ (∀ (c47 : 0 ≤ l1), (kd Θ42 l1 = 35) ∧ ∀ (v51 : Int) (e51 : v51 = gt (vv Θ42 l1) 5) (r51 : -1 ≤ v51), (kd Θ42 v51 = 3) ∧ (¬ fz Θ42 v51) ∧ (rf Θ42 v13) ∧ (adC (cp Θ42 v51) (len (vv Θ42 v51)) ≤ 60000000) ∧ (0 + 3 + G31 + (adC (cp Θ31 v37) (len (vv Θ31 v37)) - cp Θ31 v37).toNat + (adC (cp Θ42 v51) (len (vv Θ42 v51)) - cp Θ42 v51).toNat ≤ G) ∧ ∀ (k56 : Int) (Θ56 : Th) (t56 : Θ56 = uq Θ42 v51 (3, vv Θ42 v51 ++ [v13], adC (cp Θ42 v51) (len (vv Θ42 v51)), k56)), W2_X20_begin_60 ω d G l0 l3 v13 (0 + 3 + G31 + (adC (cp Θ31 v37) (len (vv Θ31 v37)) - cp Θ31 v37).toNat + (adC (cp Θ42 v51) (len (vv Θ42 v51)) - cp Θ42 v51).toNat) Θ56 Q))) ∧ (∀ (c9 : x4 = 60), Q Θ)) : w2_X20_begin ω d G l0 l1 l2 l3 Θ Q := sorry
set_option maxHeartbeats 4000000 in
theorem s2_X20_begin_60 {ω : AO} {d G : Nat} {l0 l3 l4 : Int} {g : Nat} {Θ : Th} {Q : Th → Prop} (hB : (kd Θ l4 = 35) ∧ ∀ (v62 : Int) (e62 : v62 = gt (vv Θ l4) 8) (r62 : -2147483648 ≤ v62 ∧ v62 < 2147483648), (∀ (c66 : ¬ v62 = 2), W2_X20_begin_81 ω d G l0 l3 l4 (g) Θ Q) ∧ (∀ (c66 : v62 = 2), ∀ (v74 : Int) (e74 : v74 = gt (vv Θ l4) 7) (r74 : -2147483648 ≤ v74 ∧ v74 < 2147483648), (1 ≤ d) ∧ ∃ G78 : Nat, (g + G78 ≤ G) ∧ w2_X20_begin ω (d - 1) G78 l0 l4 v74 l3 Θ (fun Θ78 => ∀ (L78 : Le Θ Θ78), W2_X20_begin_81 ω d G l0 l3 l4 (g + G78) Θ78 Q))) : W2_X20_begin_60 ω d G l0 l3 l4 g Θ Q := sorry
set_option maxHeartbeats 4000000 in
theorem s2_X20_begin_81 {ω : AO} {d G : Nat} {l0 l3 l4 : Int} {g : Nat} {Θ : Th} {Q : Th → Prop} (hB : (kd Θ l4 = 35) ∧ ∀ (v83 : Int) (e83 : v83 = gt (vv Θ l4) 8) (r83 : -2147483648 ≤ v83 ∧ v83 < 2147483648), (∀ (c87 : v83 = 1), (g + 1 ≤ G) ∧ ∀ (v91 : Int) (Θ91 : Th) (u91 : nt Θ ≤ v91 ∧ 0 ≤ v91) (b91 : Bl Θ) (t91 : Θ91 = nu Θ v91 (201, [], 0, 0)), (1 ≤ d) ∧ (3 ≤ d) ∧ (g + 1 + 5 ≤ G) ∧ ∀ (Θ95 : Th) (t95 : Θ95 = uq Θ91 v91 (1, [], 16, 0)), ∀ (v98 : Int) (h98 : Str Θ95 v98 [45, 45]), (¬ fz Θ95 v91) ∧ (bC (cp Θ95 v91) (len (vv Θ95 v91) + len (vv Θ95 v98)) ≤ 20000000) ∧ (11 ≤ d) ∧ (g + 1 + 5 + (bK (bC (cp Θ95 v91) (len (vv Θ95 v91) + len (vv Θ95 v98))) (max (cx Θ95 v91) (wide (vv Θ95 v98))) - bK (cp Θ95 v91) (cx Θ95 v91)).toNat ≤ G) ∧ ∀ (Θ100 : Th) (t100 : Θ100 = uq Θ95 v91 (1, vv Θ95 v91 ++ vv Θ95 v98, bC (cp Θ95 v91) (len (vv Θ95 v91) + len (vv Θ95 v98)), max (cx Θ95 v91) (wide (vv Θ95 v98)))), ∃ G105 : Nat, (g + 1 + 5 + (bK (bC (cp Θ95 v91) (len (vv Θ95 v91) + len (vv Θ95 v98))) (max (cx Θ95 v91) (wide (vv Θ95 v98))) - bK (cp Θ95 v91) (cx Θ95 v91)).toNat + G105 ≤ G) ∧ w2_X22_boundary ω (d - 1) G105 l4 Θ100 (fun x105 Θ105 => ∀ (L105 : Le Θ100 Θ105) (r105 : -1 ≤ x105), (kd Θ105 x105 = 2) ∧ (¬ fz Θ105 v91) ∧ (bC (cp Θ105 v91) (len (vv Θ105 v91) + len (vv Θ105 x105)) ≤ 20000000) ∧ (g + 1 + 5 + (bK (bC (cp Θ95 v91) (len (vv Θ95 v91) + len (vv Θ95 v98))) (max (cx Θ95 v91) (wide (vv Θ95 v98))) - bK (cp Θ95 v91) (cx Θ95 v91)).toNat + G105 + (bK (bC (cp Θ105 v91) (len (vv Θ105 v91) + len (vv Θ105 x105))) (max (cx Θ105 v91) (wide (vv Θ105 x105))) - bK (cp Θ105 v91) (cx Θ105 v91)).toNat ≤ G) ∧ ∀ (Θ108 : Th) (t108 : Θ108 = uq Θ105 v91 (1, vv Θ105 v91 ++ vv Θ105 x105, bC (cp Θ105 v91) (len (vv Θ105 v91) + len (vv Θ105 x105)), max (cx Θ105 v91) (wide (vv Θ105 x105)))), (len (vv Θ108 v91) ≤ 15000000) ∧ (8 ≤ d) ∧ (g + 1 + 5 + (bK (bC (cp Θ95 v91) (len (vv Θ95 v91) + len (vv Θ95 v98))) (max (cx Θ95 v91) (wide (vv Θ95 v98))) - bK (cp Θ95 v91) (cx Θ95 v91)).toNat + G105 + (bK (bC (cp Θ105 v91) (len (vv Θ105 v91) + len (vv Θ105 x105))) (max (cx Θ105 v91) (wide (vv Θ105 x105))) - bK (cp Θ105 v91) (cx Θ105 v91)).toNat + (len (vv Θ108 v91) + 5).toNat ≤ G) ∧ ∀ (x111 : Int) (Θ111 : Th) (e111 : NewS Θ108 Θ111 x111 (vv Θ108 v91)) (n111 : nt Θ108 ≤ x111), W2_X20_begin_116 ω d G l0 l3 l4 x111 (g + 1 + 5 + (bK (bC (cp Θ95 v91) (len (vv Θ95 v91) + len (vv Θ95 v98))) (max (cx Θ95 v91) (wide (vv Θ95 v98))) - bK (cp Θ95 v91) (cx Θ95 v91)).toNat + G105 + (bK (bC (cp Θ105 v91) (len (vv Θ105 v91) + len (vv Θ105 x105))) (max (cx Θ105 v91) (wide (vv Θ105 x105))) - bK (cp Θ105 v91) (cx Θ105 v91)).toNat + (len (vv Θ108 v91) + 5).toNat) Θ111 Q)) ∧ (∀ (c87 : ¬ v83 = 1), (g ≤ G) ∧ Q Θ)) : W2_X20_begin_81 ω d G l0 l3 l4 g Θ Q := sorry
set_option maxHeartbeats 4000000 in
theorem s2_X20_begin_116 {ω : AO} {d G : Nat} {l0 l3 l4 l5 : Int} {g : Nat} {Θ : Th} {Q : Th → Prop} (hB : (g + 1 ≤ G) ∧ ∀ (v116 : Int) (Θ116 : Th) (u116 : nt Θ ≤ v116 ∧ 0 ≤ v116) (b116 : Bl Θ) (t116 : Θ116 = nu Θ v116 (201, [], 0, 0)), (1 ≤ d) ∧ (3 ≤ d) ∧ (g + 1 + 5 ≤ G) ∧ ∀ (Θ120 : Th) (t120 : Θ120 = uq Θ116 v116 (1, [], 16, 0)), (kd Θ120 l5 = 2) ∧ (¬ fz Θ120 v116) ∧ (bC (cp Θ120 v116) (len (vv Θ120 v116) + len (vv Θ120 l5)) ≤ 20000000) ∧ (11 ≤ d) ∧ (g + 1 + 5 + (bK (bC (cp Θ120 v116) (len (vv Θ120 v116) + len (vv Θ120 l5))) (max (cx Θ120 v116) (wide (vv Θ120 l5))) - bK (cp Θ120 v116) (cx Θ120 v116)).toNat ≤ G) ∧ ∀ (Θ125 : Th) (t125 : Θ125 = uq Θ120 v116 (1, vv Θ120 v116 ++ vv Θ120 l5, bC (cp Θ120 v116) (len (vv Θ120 v116) + len (vv Θ120 l5)), max (cx Θ120 v116) (wide (vv Θ120 l5)))), ∀ (v128 : Int) (h128 : Str Θ125 v128 [45, 45]), (bC (cp Θ125 v116) (len (vv Θ125 v116) + len (vv Θ125 v128)) ≤ 20000000) ∧ (g + 1 + 5 + (bK (bC (cp Θ120 v116) (len (vv Θ120 v116) + len (vv Θ120 l5))) (max (cx Θ120 v116) (wide (vv Θ120 l5))) - bK (cp Θ120 v116) (cx Θ120 v116)).toNat + (bK (bC (cp Θ125 v116) (len (vv Θ125 v116) + len (vv Θ125 v128))) (max (cx Θ125 v116) (wide (vv Θ125 v128))) - bK (cp Θ125 v116) (cx Θ125 v116)).toNat ≤ G) ∧ ∀ (Θ130 : Th) (t130 : Θ130 = uq Θ125 v116 (1, vv Θ125 v116 ++ vv Θ125 v128, bC (cp Θ125 v116) (len (vv Θ125 v116) + len (vv Θ125 v128)), max (cx Θ125 v116) (wide (vv Θ125 v128)))), (len (vv Θ130 v116) ≤ 15000000) ∧ (8 ≤ d) ∧ (g + 1 + 5 + (bK (bC (cp Θ120 v116) (len (vv Θ120 v116) + len (vv Θ120 l5))) (max (cx Θ120 v116) (wide (vv Θ120 l5))) - bK (cp Θ120 v116) (cx Θ120 v116)).toNat + (bK (bC (cp Θ125 v116) (len (vv Θ125 v116) + len (vv Θ125 v128))) (max (cx Θ125 v116) (wide (vv Θ125 v128))) - bK (cp Θ125 v116) (cx Θ125 v116)).toNat + (len (vv Θ130 v116) + 5).toNat ≤ G) ∧ ∀ (x133 : Int) (Θ133 : Th) (e133 : NewS Θ130 Θ133 x133 (vv Θ130 v116)) (n133 : nt Θ130 ≤ x133), W2_X20_begin_138 ω d G l0 l3 l4 l5 x133 (g + 1 + 5 + (bK (bC (cp Θ120 v116) (len (vv Θ120 v116) + len (vv Θ120 l5))) (max (cx Θ120 v116) (wide (vv Θ120 l5))) - bK (cp Θ120 v116) (cx Θ120 v116)).toNat + (bK (bC (cp Θ125 v116) (len (vv Θ125 v116) + len (vv Θ125 v128))) (max (cx Θ125 v116) (wide (vv Θ125 v128))) - bK (cp Θ125 v116) (cx Θ125 v116)).toNat + (len (vv Θ130 v116) + 5).toNat) Θ133 Q) : W2_X20_begin_116 ω d G l0 l3 l4 l5 g Θ Q := sorry
set_option maxHeartbeats 4000000 in
theorem s2_X20_begin_138 {ω : AO} {d G : Nat} {l0 l3 l4 l5 l6 : Int} {g : Nat} {Θ : Th} {Q : Th → Prop} (hB : (kd Θ l4 = 35) ∧ ∀ (v143 : Int) (e143 : v143 = gt (vv Θ l4) 7) (r143 : -2147483648 ≤ v143 ∧ v143 < 2147483648), W2_X20_begin_148 ω d G l0 l3 l4 l5 l6 ((-1)) v143 (g) Θ Q) : W2_X20_begin_138 ω d G l0 l3 l4 l5 l6 g Θ Q := sorry
set_option maxHeartbeats 4000000 in
theorem s2_X20_begin_148 {ω : AO} {d G : Nat} {l0 l3 l4 l5 l6 l7 l8 : Int} {g : Nat} {Θ : Th} {Q : Th → Prop} (hB : (-2147483648 ≤ l8 ∧ l8 < 2147483648) ∧ (-2147483648 ≤ l3 ∧ l3 < 2147483648) ∧ (∀ (c151 : l3 ≤ l8), (-2147483648 ≤ l7 ∧ l7 < 2147483648) ∧ (∀ (c218 : l7 < 0), (g ≤ G) ∧ Q Θ) ∧ (∀ (c218 : 0 ≤ l7), (1 ≤ d) ∧ ∃ G227 : Nat, (g + G227 ≤ G) ∧ w2_X20_begin ω (d - 1) G227 l0 l4 l7 l3 Θ (fun Θ227 => ∀ (L227 : Le Θ Θ227), (g + G227 ≤ G) ∧ Q Θ227))) ∧ (∀ (c151 : l8 < l3), (1 ≤ d) ∧ (kd Θ l0 = 33) ∧ ∃ G159 : Nat, (g + G159 ≤ G) ∧ w2_X20_isMark ω (d - 1) G159 l0 l8 l6 Θ (fun x159 Θ159 => ∀ (L159 : Le Θ Θ159) (r159 : x159 = 0 ∨ x159 = 1), (∀ (c166 : ¬ x159 = 0), W2_X20_begin_183 ω d G l0 l3 l4 l5 l6 l7 l8 x159 (g + G159) Θ159 Q) ∧ (∀ (c166 : x159 = 0), ∃ G174 : Nat, (g + G159 + G174 ≤ G) ∧ w2_X20_isMark ω (d - 1) G174 l0 l8 l5 Θ159 (fun x174 Θ174 => ∀ (L174 : Le Θ159 Θ174) (r174 : x174 = 0 ∨ x174 = 1), (∀ (c177 : ¬ x174 = 0), W2_X20_begin_183 ω d G l0 l3 l4 l5 l6 l7 l8 x159 (g + G159 + G174) Θ174 Q) ∧ (∀ (c177 : x174 = 0), W2_X20_begin_148 ω d G l0 l3 l4 l5 l6 l7 ((l8 + 1)) (g + G159 + G174) Θ174 Q)))))) : W2_X20_begin_148 ω d G l0 l3 l4 l5 l6 l7 l8 g Θ Q := sorry
set_option maxHeartbeats 4000000 in
theorem s2_X20_begin_183 {ω : AO} {d G : Nat} {l0 l3 l4 l5 l6 l7 l8 l9 : Int} {g : Nat} {Θ : Th} {Q : Th → Prop} (hB : (-2147483648 ≤ l7 ∧ l7 < 2147483648) ∧ (∀ (c185 : l7 < 0), W2_X20_begin_198 ω d G l0 l3 l4 l5 l6 l8 l9 (g) Θ Q) ∧ (∀ (c185 : 0 ≤ l7), (1 ≤ d) ∧ ∃ G195 : Nat, (g + G195 ≤ G) ∧ w2_X20_begin ω (d - 1) G195 l0 l4 l7 l8 Θ (fun Θ195 => ∀ (L195 : Le Θ Θ195), W2_X20_begin_198 ω d G l0 l3 l4 l5 l6 l8 l9 (g + G195) Θ195 Q))) : W2_X20_begin_183 ω d G l0 l3 l4 l5 l6 l7 l8 l9 g Θ Q := sorry
set_option maxHeartbeats 4000000 in
theorem s2_X20_begin_198 {ω : AO} {d G : Nat} {l0 l3 l4 l5 l6 l8 l9 : Int} {g : Nat} {Θ : Th} {Q : Th → Prop} (hB : (-2147483648 ≤ l9 ∧ l9 < 2147483648) ∧ (∀ (c206 : l9 = 0), W2_X20_begin_148 ω d G l0 l3 l4 l5 l6 ((l8 + 1)) ((l8 + 1)) (g) Θ Q) ∧ (∀ (c206 : ¬ l9 = 0), (g ≤ G) ∧ Q Θ)) : W2_X20_begin_198 ω d G l0 l3 l4 l5 l6 l8 l9 g Θ Q := sorry
set_option maxHeartbeats 4000000 in
theorem s2_X25_init {ω : AO} {d G : Nat} {l0 : Int} {Θ : Th} {Q : Th → Prop} (hB : (1 ≤ d) ∧ (0 ≤ l0) ∧ (0 + 1 ≤ G) ∧ ∀ (v5 : Int) (Θ5 : Th) (u5 : nt Θ ≤ v5 ∧ 0 ≤ v5) (b5 : Bl Θ) (t5 : Θ5 = nu Θ v5 (203, [], 0, 0)), (4 ≤ d) ∧ ∀ (k9 : Int) (Θ9 : Th) (t9 : Θ9 = uq Θ5 v5 (3, [], 0, k9)), (kd Θ9 l0 = 38) ∧ (¬ fz Θ9 l0) ∧ ∀ (Θ12 : Th) (t12 : Θ12 = pf Θ9 l0 0 v5), Q Θ12) : w2_X25_init ω d G l0 Θ Q := sorry
def W2_X25_isPlain_4 (ω : AO) (d G : Nat) (l0 l1 l2 : Int) (g : Nat) (Θ : Th) (Q : Int → Th → Prop) : Prop := Hid (SJ2 ω yX25_isPlain cX25_isPlain 3 (some .boolean) d G (fun Sz Θz => (eZ Sz (q2 ω Θz Q))) 4 [(2, l0), (0, l1), (0, l2)] [] g Θ)
def W2_X25_isPlain_45 (ω : AO) (d G : Nat) (l0 l2 : Int) (g : Nat) (Θ : Th) (Q : Int → Th → Prop) : Prop := Hid (SJ2 ω yX25_isPlain cX25_isPlain 3 (some .boolean) d G (fun Sz Θz => (eZ Sz (q2 ω Θz Q))) 45 [(2, l0), vN, (0, l2)] [] g Θ)
set_option maxHeartbeats 4000000 in
theorem s2_X25_isPlain {ω : AO} {d G : Nat} {l0 : Int} {Θ : Th} {Q : Int → Th → Prop} (hB : W2_X25_isPlain_4 ω d G l0 1 0 (0) Θ Q) : w2_X25_isPlain ω d G l0 Θ Q := sorry
set_option maxHeartbeats 4000000 in
theorem s2_X25_isPlain_4 {ω : AO} {d G : Nat} {l0 l1 l2 : Int} {g : Nat} {Θ : Th} {Q : Int → Th → Prop} (hB : (kd Θ l0 = 38) ∧ ∀ (v6 : Int) (e6 : v6 = gt (vv Θ l0) 0) (r6 : -1 ≤ v6), (1 ≤ d) ∧ (kd Θ v6 = 3) ∧ (g ≤ G) ∧ ∀ (x9 : Int) (e9 : x9 = len (vv Θ v6)) (r9 : -2147483648 ≤ x9 ∧ x9 < 2147483648), (-2147483648 ≤ l2 ∧ l2 < 2147483648) ∧ (∀ (c12 : x9 ≤ l2), (l1 = 0 ∨ l1 = 1) ∧ Q l1 Θ) ∧ (∀ (c12 : l2 < x9), (-2147483648 ≤ l1 ∧ l1 < 2147483648) ∧ (∀ (c16 : l1 = 0), W2_X25_isPlain_45 ω d G l0 l2 (g) Θ Q) ∧ (∀ (c16 : ¬ l1 = 0), ∀ (v20 : Int) (e20 : v20 = gt (vv Θ l0) 0) (r20 : -1 ≤ v20), (kd Θ v20 = 3) ∧ (0 ≤ l2 ∧ l2 < len (vv Θ v20)) ∧ (3 ≤ d) ∧ ∀ (x24 : Int) (e24 : x24 = gt (vv Θ v20) l2) (r24 : -1 ≤ x24), (x24 < 0 ∨ kd Θ x24 ∈ [35]) ∧ (kd Θ x24 = 35) ∧ ∀ (v30 : Int) (e30 : v30 = gt (vv Θ x24) 9) (r30 : -1 ≤ v30), ∀ (v33 : Int) (h33 : Str Θ v33 [116, 101, 120, 116, 47, 104, 116, 109, 108]), (kd Θ v30 = 2) ∧ (2 ≤ d) ∧ ∀ (x35 : Int) (e35 : x35 = if vv Θ v30 = vv Θ v33 then 1 else 0) (r35 : x35 = 0 ∨ x35 = 1), (∀ (c38 : ¬ x35 = 0), W2_X25_isPlain_45 ω d G l0 l2 (g) Θ Q) ∧ (∀ (c38 : x35 = 0), W2_X25_isPlain_4 ω d G l0 1 ((l2 + 1)) (g) Θ Q)))) : W2_X25_isPlain_4 ω d G l0 l1 l2 g Θ Q := sorry
set_option maxHeartbeats 4000000 in
theorem s2_X25_isPlain_45 {ω : AO} {d G : Nat} {l0 l2 : Int} {g : Nat} {Θ : Th} {Q : Int → Th → Prop} (hB : W2_X25_isPlain_4 ω d G l0 0 ((l2 + 1)) (g) Θ Q) : W2_X25_isPlain_45 ω d G l0 l2 g Θ Q := sorry
def W2_X25_of_24 (ω : AO) (d G : Nat) (l0 l1 : Int) (g : Nat) (Θ : Th) (Q : Int → Th → Prop) : Prop := Hid (SJ2 ω yX25_of cX25_of 6 (some (.object "MailWorks$Shown")) d G (fun Sz Θz => (eA Sz (q2 ω Θz Q))) 24 [(2, l0), (2, l1), vN, vN, vN, vN] [] g Θ)
def W2_X25_of_31 (ω : AO) (d G : Nat) (l0 l1 l2 l3 l4 : Int) (g : Nat) (Θ : Th) (Q : Int → Th → Prop) : Prop := Hid (SJ2 ω yX25_of cX25_of 6 (some (.object "MailWorks$Shown")) d G (fun Sz Θz => (eA Sz (q2 ω Θz Q))) 31 [(2, l0), (2, l1), (2, l2), (2, l3), (0, l4), vN] [] g Θ)
def W2_X25_of_99 (ω : AO) (d G : Nat) (l0 l1 l3 l4 l5 : Int) (g : Nat) (Θ : Th) (Q : Int → Th → Prop) : Prop := Hid (SJ2 ω yX25_of cX25_of 6 (some (.object "MailWorks$Shown")) d G (fun Sz Θz => (eA Sz (q2 ω Θz Q))) 99 [(2, l0), (2, l1), vN, (2, l3), (0, l4), (2, l5)] [] g Θ)
set_option maxHeartbeats 4000000 in
theorem s2_X25_of {ω : AO} {d G : Nat} {l0 : Int} {Θ : Th} {Q : Int → Th → Prop} (hB : (0 + 1 ≤ G) ∧ ∀ (v0 : Int) (Θ0 : Th) (u0 : nt Θ ≤ v0 ∧ 0 ≤ v0) (b0 : Bl Θ) (t0 : Θ0 = nu Θ v0 (38, [-1], 0, 0)), (1 ≤ d) ∧ ∃ G4 : Nat, (0 + 1 + G4 ≤ G) ∧ w2_X25_init ω (d - 1) G4 v0 Θ0 (fun Θ4 => ∀ (L4 : Le Θ0 Θ4), (kd Θ4 l0 = 35) ∧ ∃ G9 : Nat, (0 + 1 + G4 + G9 ≤ G) ∧ w2_X22_isText ω (d - 1) G9 l0 Θ4 (fun x9 Θ9 => ∀ (L9 : Le Θ4 Θ9) (r9 : x9 = 0 ∨ x9 = 1), (∀ (c12 : x9 = 0), W2_X25_of_24 ω d G l0 v0 (0 + 1 + G4 + G9) Θ9 Q) ∧ (∀ (c12 : ¬ x9 = 0), ∀ (v16 : Int) (e16 : v16 = gt (vv Θ9 v0) 0) (r16 : -1 ≤ v16), (kd Θ9 v16 = 3) ∧ (¬ fz Θ9 v16) ∧ (rf Θ9 l0) ∧ (adC (cp Θ9 v16) (len (vv Θ9 v16)) ≤ 60000000) ∧ (7 ≤ d) ∧ (0 + 1 + G4 + G9 + (adC (cp Θ9 v16) (len (vv Θ9 v16)) - cp Θ9 v16).toNat ≤ G) ∧ ∀ (k20 : Int) (Θ20 : Th) (t20 : Θ20 = uq Θ9 v16 (3, vv Θ9 v16 ++ [l0], adC (cp Θ9 v16) (len (vv Θ9 v16)), k20)), W2_X25_of_24 ω d G l0 v0 (0 + 1 + G4 + G9 + (adC (cp Θ9 v16) (len (vv Θ9 v16)) - cp Θ9 v16).toNat) Θ20 Q)))) : w2_X25_of ω d G l0 Θ Q := sorry
set_option maxHeartbeats 4000000 in
theorem s2_X25_of_24 {ω : AO} {d G : Nat} {l0 l1 : Int} {g : Nat} {Θ : Th} {Q : Int → Th → Prop} (hB : W2_X25_of_31 ω d G l0 l1 ((-1)) ((-1)) 0 (g) Θ Q) : W2_X25_of_24 ω d G l0 l1 g Θ Q := sorry
set_option maxHeartbeats 4000000 in
theorem s2_X25_of_31 {ω : AO} {d G : Nat} {l0 l1 l2 l3 l4 : Int} {g : Nat} {Θ : Th} {Q : Int → Th → Prop} (hB : (kd Θ l0 = 35) ∧ ∀ (v34 : Int) (e34 : v34 = gt (vv Θ l0) 5) (r34 : -1 ≤ v34), (1 ≤ d) ∧ (kd Θ v34 = 3) ∧ (g ≤ G) ∧ ∀ (x37 : Int) (e37 : x37 = len (vv Θ v34)) (r37 : -2147483648 ≤ x37 ∧ x37 < 2147483648), (-2147483648 ≤ l4 ∧ l4 < 2147483648) ∧ (∀ (c40 : x37 ≤ l4), ∀ (v120 : Int) (e120 : v120 = gt (vv Θ l0) 8) (r120 : -2147483648 ≤ v120 ∧ v120 < 2147483648), (∀ (c124 : ¬ v120 = 1), (-1 ≤ l1) ∧ Q l1 Θ) ∧ (∀ (c124 : v120 = 1), ∀ (v128 : Int) (e128 : v128 = gt (vv Θ l0) 9) (r128 : -1 ≤ v128), ∀ (v131 : Int) (h131 : Str Θ v131 [109, 117, 108, 116, 105, 112, 97, 114, 116, 47, 97, 108, 116, 101, 114, 110, 97, 116, 105, 118, 101]), (kd Θ v128 = 2) ∧ (2 ≤ d) ∧ ∀ (x133 : Int) (e133 : x133 = if vv Θ v128 = vv Θ v131 then 1 else 0) (r133 : x133 = 0 ∨ x133 = 1), (∀ (c136 : x133 = 0), (-1 ≤ l1) ∧ Q l1 Θ) ∧ (∀ (c136 : ¬ x133 = 0), (∀ (c140 : l2 < 0), (-1 ≤ l1) ∧ Q l1 Θ) ∧ (∀ (c140 : 0 ≤ l2), (∀ (c144 : l3 < 0), (-1 ≤ l2) ∧ Q l2 Θ) ∧ (∀ (c144 : 0 ≤ l3), (-1 ≤ l3) ∧ Q l3 Θ))))) ∧ (∀ (c40 : l4 < x37), ∀ (v44 : Int) (e44 : v44 = gt (vv Θ l0) 5) (r44 : -1 ≤ v44), (kd Θ v44 = 3) ∧ (0 ≤ l4 ∧ l4 < len (vv Θ v44)) ∧ (3 ≤ d) ∧ ∀ (x49 : Int) (e49 : x49 = gt (vv Θ v44) l4) (r49 : -1 ≤ x49), (x49 < 0 ∨ kd Θ x49 ∈ [35]) ∧ ∃ G55 : Nat, (g + G55 ≤ G) ∧ w2_X25_of ω (d - 1) G55 x49 Θ (fun x55 Θ55 => ∀ (L55 : Le Θ Θ55) (r55 : -1 ≤ x55), (kd Θ55 x55 = 38) ∧ ∀ (v62 : Int) (e62 : v62 = gt (vv Θ55 x55) 0) (r62 : -1 ≤ v62), (kd Θ55 v62 = 3) ∧ (g + G55 ≤ G) ∧ ∀ (x65 : Int) (e65 : x65 = if vv Θ55 v62 = [] then 1 else 0) (r65 : x65 = 0 ∨ x65 = 1), (∀ (c68 : x65 = 0), ∀ (v75 : Int) (e75 : v75 = gt (vv Θ55 l0) 9) (r75 : -1 ≤ v75), ∀ (v78 : Int) (h78 : Str Θ55 v78 [109, 117, 108, 116, 105, 112, 97, 114, 116, 47, 97, 108, 116, 101, 114, 110, 97, 116, 105, 118, 101]), (kd Θ55 v75 = 2) ∧ (2 ≤ d) ∧ ∀ (x80 : Int) (e80 : x80 = if vv Θ55 v75 = vv Θ55 v78 then 1 else 0) (r80 : x80 = 0 ∨ x80 = 1), (∀ (c83 : ¬ x80 = 0), W2_X25_of_99 ω d G l0 l1 l3 l4 x55 (g + G55) Θ55 Q) ∧ (∀ (c83 : x80 = 0), (kd Θ55 l1 = 38) ∧ ∀ (v87 : Int) (e87 : v87 = gt (vv Θ55 l1) 0) (r87 : -1 ≤ v87), ∀ (v92 : Int) (e92 : v92 = gt (vv Θ55 x55) 0) (r92 : -1 ≤ v92), (kd Θ55 v87 = 3) ∧ ∃ G95 : Nat, (g + G55 + G95 ≤ G) ∧ w2_J7_addAll ω (d - 1) G95 v87 v92 Θ55 (fun x95 Θ95 => ∀ (L95 : Le Θ55 Θ95) (r95 : x95 = 0 ∨ x95 = 1), W2_X25_of_99 ω d G l0 l1 l3 l4 x55 (g + G55 + G95) Θ95 Q))) ∧ (∀ (c68 : ¬ x65 = 0), W2_X25_of_31 ω d G l0 l1 l2 l3 ((l4 + 1)) (g + G55) Θ55 Q)))) : W2_X25_of_31 ω d G l0 l1 l2 l3 l4 g Θ Q := sorry
set_option maxHeartbeats 4000000 in
theorem s2_X25_of_99 {ω : AO} {d G : Nat} {l0 l1 l3 l4 l5 : Int} {g : Nat} {Θ : Th} {Q : Int → Th → Prop} (hB : (1 ≤ d) ∧ (kd Θ l5 = 38) ∧ ∃ G104 : Nat, (g + G104 ≤ G) ∧ w2_X25_isPlain ω (d - 1) G104 l5 Θ (fun x104 Θ104 => ∀ (L104 : Le Θ Θ104) (r104 : x104 = 0 ∨ x104 = 1), (∀ (c107 : x104 = 0), W2_X25_of_31 ω d G l0 l1 l5 l3 ((l4 + 1)) (g + G104) Θ104 Q) ∧ (∀ (c107 : ¬ x104 = 0), W2_X25_of_31 ω d G l0 l1 l5 l5 ((l4 + 1)) (g + G104) Θ104 Q))) : W2_X25_of_99 ω d G l0 l1 l3 l4 l5 g Θ Q := sorry
def W2_X20_init_83 (ω : AO) (d G : Nat) (l0 l2 : Int) (g : Nat) (Θ : Th) (Q : Th → Prop) : Prop := Hid (SJ2 ω yX20_init cX20_init 4 none d G (fun Sz Θz => (eU Sz (q2U ω Θz Q))) 83 [(2, l0), vN, (2, l2), vN] [] g Θ)
def W2_X20_init_139 (ω : AO) (d G : Nat) (l0 l2 l3 : Int) (g : Nat) (Θ : Th) (Q : Th → Prop) : Prop := Hid (SJ2 ω yX20_init cX20_init 4 none d G (fun Sz Θz => (eU Sz (q2U ω Θz Q))) 139 [(2, l0), vN, (2, l2), (2, l3)] [] g Θ)
set_option maxHeartbeats 4000000 in
theorem s2_X20_init {ω : AO} {d G : Nat} {l0 l1 : Int} {Θ : Th} {Q : Th → Prop} (hB : (1 ≤ d) ∧ (0 ≤ l0) ∧ (0 + 1 ≤ G) ∧ ∀ (v5 : Int) (Θ5 : Th) (u5 : nt Θ ≤ v5 ∧ 0 ≤ v5) (b5 : Bl Θ) (t5 : Θ5 = nu Θ v5 (203, [], 0, 0)), (4 ≤ d) ∧ ∀ (k9 : Int) (Θ9 : Th) (t9 : Θ9 = uq Θ5 v5 (3, [], 0, k9)), (kd Θ9 l0 = 33) ∧ (¬ fz Θ9 l0) ∧ ∀ (Θ12 : Th) (t12 : Θ12 = pf Θ9 l0 0 v5), (0 + 1 + 1 ≤ G) ∧ ∀ (v16 : Int) (Θ16 : Th) (u16 : nt Θ12 ≤ v16 ∧ 0 ≤ v16) (b16 : Bl Θ12) (t16 : Θ16 = nu Θ12 v16 (203, [], 0, 0)), ∀ (k20 : Int) (Θ20 : Th) (t20 : Θ20 = uq Θ16 v16 (3, [], 0, k20)), (¬ fz Θ20 l0) ∧ ∀ (Θ23 : Th) (t23 : Θ23 = pf Θ20 l0 2 v16), (0 + 1 + 1 + 1 ≤ G) ∧ ∀ (v27 : Int) (Θ27 : Th) (u27 : nt Θ23 ≤ v27 ∧ 0 ≤ v27) (b27 : Bl Θ23) (t27 : Θ27 = nu Θ23 v27 (34, [-1], 0, 0)), ∃ G32 : Nat, (0 + 1 + 1 + 1 + G32 ≤ G) ∧ w2_X21_init ω (d - 1) G32 v27 l1 Θ27 (fun Θ32 => ∀ (L32 : Le Θ27 Θ32), (¬ fz Θ32 l0) ∧ ∀ (Θ35 : Th) (t35 : Θ35 = pf Θ32 l0 3 v27), ∀ (v42 : Int) (e42 : v42 = gt (vv Θ35 l0) 3) (r42 : -1 ≤ v42), (kd Θ35 v42 = 34) ∧ ∀ (v45 : Int) (e45 : v45 = gt (vv Θ35 v42) 0) (r45 : -1 ≤ v45), (kd Θ35 v45 = 3) ∧ (0 + 1 + 1 + 1 + G32 ≤ G) ∧ ∀ (x48 : Int) (e48 : x48 = len (vv Θ35 v45)) (r48 : -2147483648 ≤ x48 ∧ x48 < 2147483648), ∃ G51 : Nat, (0 + 1 + 1 + 1 + G32 + G51 ≤ G) ∧ w2_X20_begin ω (d - 1) G51 l0 (-1) 0 x48 Θ35 (fun Θ51 => ∀ (L51 : Le Θ35 Θ51), ∀ (v56 : Int) (e56 : v56 = gt (vv Θ51 l0) 0) (r56 : -1 ≤ v56), (kd Θ51 v56 = 3) ∧ (0 ≤ (0 : Int) ∧ (0 : Int) < len (vv Θ51 v56)) ∧ (3 ≤ d) ∧ (0 + 1 + 1 + 1 + G32 + G51 ≤ G) ∧ ∀ (x60 : Int) (e60 : x60 = gt (vv Θ51 v56) (0 : Int)) (r60 : -1 ≤ x60), (x60 < 0 ∨ kd Θ51 x60 ∈ [35]) ∧ ∃ G66 : Nat, (0 + 1 + 1 + 1 + G32 + G51 + G66 ≤ G) ∧ w2_X25_of ω (d - 1) G66 x60 Θ51 (fun x66 Θ66 => ∀ (L66 : Le Θ51 Θ66) (r66 : -1 ≤ x66), (kd Θ66 x66 = 38) ∧ ∀ (v69 : Int) (e69 : v69 = gt (vv Θ66 x66) 0) (r69 : -1 ≤ v69), (¬ fz Θ66 l0) ∧ ∀ (Θ72 : Th) (t72 : Θ72 = pf Θ66 l0 1 v69), ∀ (v76 : Int) (e76 : v76 = gt (vv Θ72 l0) 0) (r76 : -1 ≤ v76), (kd Θ72 v76 = 3) ∧ ∃ G79 : Nat, (0 + 1 + 1 + 1 + G32 + G51 + G66 + G79 ≤ G) ∧ w2_J7_iterator ω (d - 1) G79 v76 Θ72 (fun x79 Θ79 => ∀ (L79 : Le Θ72 Θ79) (r79 : -1 ≤ x79), W2_X20_init_83 ω d G l0 x79 (0 + 1 + 1 + 1 + G32 + G51 + G66 + G79) Θ79 Q))))) : w2_X20_init ω d G l0 l1 Θ Q := sorry
set_option maxHeartbeats 4000000 in
theorem s2_X20_init_83 {ω : AO} {d G : Nat} {l0 l2 : Int} {g : Nat} {Θ : Th} {Q : Th → Prop} (hB : (1 ≤ d) ∧ (kd Θ l2 = 14) ∧ ∃ G84 : Nat, (g + G84 ≤ G) ∧ w2_J31_hasNext ω (d - 1) G84 l2 Θ (fun x84 Θ84 => ∀ (L84 : Le Θ Θ84) (r84 : x84 = 0 ∨ x84 = 1), (∀ (c89 : x84 = 0), (g + G84 ≤ G) ∧ Q Θ84) ∧ (∀ (c89 : ¬ x84 = 0), ∃ G93 : Nat, (g + G84 + G93 ≤ G) ∧ w2_J31_next ω (d - 1) G93 l2 Θ84 (fun x93 Θ93 => ∀ (L93 : Le Θ84 Θ93) (r93 : -1 ≤ x93), (x93 < 0 ∨ kd Θ93 x93 ∈ [35]) ∧ (kd Θ93 x93 = 35) ∧ ∀ (v103 : Int) (e103 : v103 = gt (vv Θ93 x93) 8) (r103 : -2147483648 ≤ v103 ∧ v103 < 2147483648), (∀ (c106 : ¬ v103 = 0), W2_X20_init_83 ω d G l0 l2 (g + G84 + G93) Θ93 Q) ∧ (∀ (c106 : v103 = 0), (kd Θ93 l0 = 33) ∧ ∀ (v110 : Int) (e110 : v110 = gt (vv Θ93 l0) 1) (r110 : -1 ≤ v110), (kd Θ93 v110 = 3) ∧ ∃ G114 : Nat, (g + G84 + G93 + G114 ≤ G) ∧ w2_J7_contains ω (d - 1) G114 v110 x93 Θ93 (fun x114 Θ114 => ∀ (L114 : Le Θ93 Θ114) (r114 : x114 = 0 ∨ x114 = 1), (∀ (c117 : ¬ x114 = 0), W2_X20_init_83 ω d G l0 l2 (g + G84 + G93 + G114) Θ114 Q) ∧ (∀ (c117 : x114 = 0), ∀ (v121 : Int) (e121 : v121 = gt (vv Θ114 x93) 13) (r121 : 0 ≤ v121 ∧ v121 < 2), (∀ (c124 : ¬ v121 = 0), W2_X20_init_139 ω d G l0 l2 x93 (g + G84 + G93 + G114) Θ114 Q) ∧ (∀ (c124 : v121 = 0), ∀ (v128 : Int) (e128 : v128 = gt (vv Θ114 x93) 9) (r128 : -1 ≤ v128), ∀ (v131 : Int) (h131 : Str Θ114 v131 [116, 101, 120, 116, 47]), (kd Θ114 v128 = 2) ∧ ∃ G133 : Nat, (g + G84 + G93 + G114 + G133 ≤ G) ∧ w2_J2_startsWith_2 ω (d - 1) G133 v128 v131 Θ114 (fun x133 Θ133 => ∀ (L133 : Le Θ114 Θ133) (r133 : x133 = 0 ∨ x133 = 1), (∀ (c136 : ¬ x133 = 0), W2_X20_init_83 ω d G l0 l2 (g + G84 + G93 + G114 + G133) Θ133 Q) ∧ (∀ (c136 : x133 = 0), W2_X20_init_139 ω d G l0 l2 x93 (g + G84 + G93 + G114 + G133) Θ133 Q)))))))))) : W2_X20_init_83 ω d G l0 l2 g Θ Q := sorry
set_option maxHeartbeats 4000000 in
theorem s2_X20_init_139 {ω : AO} {d G : Nat} {l0 l2 l3 : Int} {g : Nat} {Θ : Th} {Q : Th → Prop} (hB : (kd Θ l0 = 33) ∧ ∀ (v140 : Int) (e140 : v140 = gt (vv Θ l0) 2) (r140 : -1 ≤ v140), (1 ≤ d) ∧ (kd Θ v140 = 3) ∧ (¬ fz Θ v140) ∧ (rf Θ l3) ∧ (adC (cp Θ v140) (len (vv Θ v140)) ≤ 60000000) ∧ (7 ≤ d) ∧ (g + (adC (cp Θ v140) (len (vv Θ v140)) - cp Θ v140).toNat ≤ G) ∧ ∀ (k144 : Int) (Θ144 : Th) (t144 : Θ144 = uq Θ v140 (3, vv Θ v140 ++ [l3], adC (cp Θ v140) (len (vv Θ v140)), k144)), W2_X20_init_83 ω d G l0 l2 (g + (adC (cp Θ v140) (len (vv Θ v140)) - cp Θ v140).toNat) Θ144 Q) : W2_X20_init_139 ω d G l0 l2 l3 g Θ Q := sorry
def W2_X20_body_13 (ω : AO) (d G : Nat) (l0 l1 l2 l3 : Int) (g : Nat) (Θ : Th) (Q : Int → Th → Prop) : Prop := Hid (SJ2 ω yX20_body cX20_body 4 (some (.object "java/lang/String")) d G (fun Sz Θz => (eA Sz (q2 ω Θz Q))) 13 [(2, l0), (2, l1), (2, l2), (0, l3)] [] g Θ)
def W2_X20_body_36 (ω : AO) (d G : Nat) (l0 l1 l2 l3 : Int) (g : Nat) (Θ : Th) (Q : Int → Th → Prop) : Prop := Hid (SJ2 ω yX20_body cX20_body 4 (some (.object "java/lang/String")) d G (fun Sz Θz => (eA Sz (q2 ω Θz Q))) 36 [(2, l0), (2, l1), (2, l2), (0, l3)] [] g Θ)
set_option maxHeartbeats 4000000 in
theorem s2_X20_body {ω : AO} {d G : Nat} {l0 l1 : Int} {Θ : Th} {Q : Int → Th → Prop} (hB : (0 + 1 ≤ G) ∧ ∀ (v0 : Int) (Θ0 : Th) (u0 : nt Θ ≤ v0 ∧ 0 ≤ v0) (b0 : Bl Θ) (t0 : Θ0 = nu Θ v0 (201, [], 0, 0)), (1 ≤ d) ∧ (3 ≤ d) ∧ (0 + 1 + 5 ≤ G) ∧ ∀ (Θ4 : Th) (t4 : Θ4 = uq Θ0 v0 (1, [], 16, 0)), (kd Θ4 l1 = 35) ∧ ∀ (v9 : Int) (e9 : v9 = gt (vv Θ4 l1) 7) (r9 : -2147483648 ≤ v9 ∧ v9 < 2147483648), W2_X20_body_13 ω d G l0 l1 v0 v9 (0 + 1 + 5) Θ4 Q) : w2_X20_body ω d G l0 l1 Θ Q := sorry
set_option maxHeartbeats 4000000 in
theorem s2_X20_body_13 {ω : AO} {d G : Nat} {l0 l1 l2 l3 : Int} {g : Nat} {Θ : Th} {Q : Int → Th → Prop} (hB : (kd Θ l1 = 35) ∧ ∀ (v15 : Int) (e15 : v15 = gt (vv Θ l1) 4) (r15 : -2147483648 ≤ v15 ∧ v15 < 2147483648), (-2147483648 ≤ l3 ∧ l3 < 2147483648) ∧ (∀ (c18 : v15 ≤ l3), (1 ≤ d) ∧ (kd Θ l2 = 1) ∧ (len (vv Θ l2) ≤ 15000000) ∧ (8 ≤ d) ∧ (g + (len (vv Θ l2) + 5).toNat ≤ G) ∧ ∀ (x62 : Int) (Θ62 : Th) (e62 : NewS Θ Θ62 x62 (vv Θ l2)) (n62 : nt Θ ≤ x62), Q x62 Θ62) ∧ (∀ (c18 : l3 < v15), ∀ (v23 : Int) (e23 : v23 = gt (vv Θ l1) 7) (r23 : -2147483648 ≤ v23 ∧ v23 < 2147483648), (∀ (c26 : l3 ≤ v23), W2_X20_body_36 ω d G l0 l1 l2 l3 (g) Θ Q) ∧ (∀ (c26 : v23 < l3), (1 ≤ d) ∧ (kd Θ l2 = 1) ∧ (¬ fz Θ l2) ∧ (bC (cp Θ l2) (len (vv Θ l2) + 1) ≤ 20000000) ∧ (9 ≤ d) ∧ (g + (bK (bC (cp Θ l2) (len (vv Θ l2) + 1)) (if (10 : Int) ≤ 255 then cx Θ l2 else 1) - bK (cp Θ l2) (cx Θ l2)).toNat ≤ G) ∧ ∀ (Θ32 : Th) (t32 : Θ32 = uq Θ l2 (1, vv Θ l2 ++ [(10 : Int)], bC (cp Θ l2) (len (vv Θ l2) + 1), if (10 : Int) ≤ 255 then cx Θ l2 else 1)), W2_X20_body_36 ω d G l0 l1 l2 l3 (g + (bK (bC (cp Θ l2) (len (vv Θ l2) + 1)) (if (10 : Int) ≤ 255 then cx Θ l2 else 1) - bK (cp Θ l2) (cx Θ l2)).toNat) Θ32 Q))) : W2_X20_body_13 ω d G l0 l1 l2 l3 g Θ Q := sorry
set_option maxHeartbeats 4000000 in
theorem s2_X20_body_36 {ω : AO} {d G : Nat} {l0 l1 l2 l3 : Int} {g : Nat} {Θ : Th} {Q : Int → Th → Prop} (hB : (kd Θ l0 = 33) ∧ ∀ (v38 : Int) (e38 : v38 = gt (vv Θ l0) 3) (r38 : -1 ≤ v38), (kd Θ v38 = 34) ∧ ∀ (v41 : Int) (e41 : v41 = gt (vv Θ v38) 0) (r41 : -1 ≤ v41), (1 ≤ d) ∧ (kd Θ v41 = 3) ∧ (0 ≤ l3 ∧ l3 < len (vv Θ v41)) ∧ (3 ≤ d) ∧ (g ≤ G) ∧ ∀ (x45 : Int) (e45 : x45 = gt (vv Θ v41) l3) (r45 : -1 ≤ x45), (x45 < 0 ∨ kd Θ x45 ∈ [2]) ∧ (kd Θ l2 = 1) ∧ (kd Θ x45 = 2) ∧ (¬ fz Θ l2) ∧ (bC (cp Θ l2) (len (vv Θ l2) + len (vv Θ x45)) ≤ 20000000) ∧ (11 ≤ d) ∧ (g + (bK (bC (cp Θ l2) (len (vv Θ l2) + len (vv Θ x45))) (max (cx Θ l2) (wide (vv Θ x45))) - bK (cp Θ l2) (cx Θ l2)).toNat ≤ G) ∧ ∀ (Θ51 : Th) (t51 : Θ51 = uq Θ l2 (1, vv Θ l2 ++ vv Θ x45, bC (cp Θ l2) (len (vv Θ l2) + len (vv Θ x45)), max (cx Θ l2) (wide (vv Θ x45)))), W2_X20_body_13 ω d G l0 l1 l2 ((l3 + 1)) (g + (bK (bC (cp Θ l2) (len (vv Θ l2) + len (vv Θ x45))) (max (cx Θ l2) (wide (vv Θ x45))) - bK (cp Θ l2) (cx Θ l2)).toNat) Θ51 Q) : W2_X20_body_36 ω d G l0 l1 l2 l3 g Θ Q := sorry
set_option maxHeartbeats 4000000 in
theorem s2_X20_whole {ω : AO} {d G : Nat} {l0 : Int} {Θ : Th} {Q : Int → Th → Prop} (hB : (kd Θ l0 = 33) ∧ ∀ (v1 : Int) (e1 : v1 = gt (vv Θ l0) 0) (r1 : -1 ≤ v1), (1 ≤ d) ∧ (kd Θ v1 = 3) ∧ (0 ≤ (0 : Int) ∧ (0 : Int) < len (vv Θ v1)) ∧ (3 ≤ d) ∧ ∀ (x5 : Int) (e5 : x5 = gt (vv Θ v1) (0 : Int)) (r5 : -1 ≤ x5), (x5 < 0 ∨ kd Θ x5 ∈ [35]) ∧ Q x5 Θ) : w2_X20_whole ω d G l0 Θ Q := sorry
set_option maxHeartbeats 4000000 in
theorem s2_X20_value {ω : AO} {d G : Nat} {l0 l1 : Int} {Θ : Th} {Q : Int → Th → Prop} (hB : (1 ≤ d) ∧ (kd Θ l0 = 33) ∧ ∃ G1 : Nat, (0 + G1 ≤ G) ∧ w2_X20_whole ω (d - 1) G1 l0 Θ (fun x1 Θ1 => ∀ (L1 : Le Θ Θ1) (r1 : -1 ≤ x1), (kd Θ1 x1 = 35) ∧ ∃ G5 : Nat, (0 + G1 + G5 ≤ G) ∧ w2_X22_find ω (d - 1) G5 x1 l1 Θ1 (fun x5 Θ5 => ∀ (L5 : Le Θ1 Θ5) (r5 : -1 ≤ x5), (∀ (c10 : 0 ≤ x5), (0 + G1 + G5 ≤ G) ∧ (-1 ≤ x5) ∧ Q x5 Θ5) ∧ (∀ (c10 : x5 < 0), ∀ (v13 : Int) (h13 : Str Θ5 v13 []), (0 + G1 + G5 ≤ G) ∧ (-1 ≤ v13) ∧ Q v13 Θ5)))) : w2_X20_value ω d G l0 l1 Θ Q := sorry
def W2_X20_hasType_2 (ω : AO) (d G : Nat) (l0 l1 l2 : Int) (g : Nat) (Θ : Th) (Q : Int → Th → Prop) : Prop := Hid (SJ2 ω yX20_hasType cX20_hasType 4 (some .boolean) d G (fun Sz Θz => (eZ Sz (q2 ω Θz Q))) 2 [(2, l0), (2, l1), (0, l2), vN] [] g Θ)
set_option maxHeartbeats 4000000 in
theorem s2_X20_hasType {ω : AO} {d G : Nat} {l0 l1 : Int} {Θ : Th} {Q : Int → Th → Prop} (hB : W2_X20_hasType_2 ω d G l0 l1 0 (0) Θ Q) : w2_X20_hasType ω d G l0 l1 Θ Q := sorry
set_option maxHeartbeats 4000000 in
theorem s2_X20_hasType_2 {ω : AO} {d G : Nat} {l0 l1 l2 : Int} {g : Nat} {Θ : Th} {Q : Int → Th → Prop} (hB : (kd Θ l0 = 33) ∧ ∀ (v4 : Int) (e4 : v4 = gt (vv Θ l0) 0) (r4 : -1 ≤ v4), (1 ≤ d) ∧ (kd Θ v4 = 3) ∧ (g ≤ G) ∧ ∀ (x7 : Int) (e7 : x7 = len (vv Θ v4)) (r7 : -2147483648 ≤ x7 ∧ x7 < 2147483648), (-2147483648 ≤ l2 ∧ l2 < 2147483648) ∧ (∀ (c10 : x7 ≤ l2), Q 0 Θ) ∧ (∀ (c10 : l2 < x7), ∀ (v14 : Int) (e14 : v14 = gt (vv Θ l0) 0) (r14 : -1 ≤ v14), (kd Θ v14 = 3) ∧ (0 ≤ l2 ∧ l2 < len (vv Θ v14)) ∧ (3 ≤ d) ∧ ∀ (x18 : Int) (e18 : x18 = gt (vv Θ v14) l2) (r18 : -1 ≤ x18), (x18 < 0 ∨ kd Θ x18 ∈ [35]) ∧ (kd Θ x18 = 35) ∧ ∀ (v24 : Int) (e24 : v24 = gt (vv Θ x18) 9) (r24 : -1 ≤ v24), (kd Θ v24 = 2) ∧ (kd Θ l1 = 2) ∧ (-1000000000 ≤ (0 : Int) ∧ (0 : Int) ≤ 1000000000) ∧ (7 ≤ d) ∧ ∀ (x31 : Int) (e31 : x31 = if pAtB (vv Θ v24) (vv Θ l1) (0 : Int) then 1 else 0) (r31 : x31 = 0 ∨ x31 = 1), (∀ (c34 : x31 = 0), W2_X20_hasType_2 ω d G l0 l1 ((l2 + 1)) (g) Θ Q) ∧ (∀ (c34 : ¬ x31 = 0), (2 ≤ d) ∧ ∀ (x38 : Int) (e38 : x38 = len (vv Θ v24)) (r38 : -2147483648 ≤ x38 ∧ x38 < 2147483648), ∀ (x42 : Int) (e42 : x42 = len (vv Θ l1)) (r42 : -2147483648 ≤ x42 ∧ x42 < 2147483648), (∀ (c45 : x38 = x42), Q 1 Θ) ∧ (∀ (c45 : ¬ x38 = x42), ∀ (x51 : Int) (e51 : x51 = idx (vv Θ v24) (47 : Int) 0) (r51 : -2147483648 ≤ x51 ∧ x51 < 2147483648), ∀ (x55 : Int) (e55 : x55 = len (vv Θ l1)) (r55 : -2147483648 ≤ x55 ∧ x55 < 2147483648), (∀ (c58 : ¬ x51 = x55), W2_X20_hasType_2 ω d G l0 l1 ((l2 + 1)) (g) Θ Q) ∧ (∀ (c58 : x51 = x55), Q 1 Θ))))) : W2_X20_hasType_2 ω d G l0 l1 l2 g Θ Q := sorry
/-! 68.ab.lean.txt -/
/-! parts: what entities there are, marks, bodies -/
set_option maxRecDepth 100000
/-- an entity: in which one, how deep, from, to, its fields, its body, whether within a digest -/
abbrev Ev : Type := Int × Int × Int × Int × List (List Int × List Int) × Int × Bool
abbrev evP (v : Ev) : Int := v.1
abbrev evDp (v : Ev) : Int := v.2.1
abbrev evF (v : Ev) : Int := v.2.2.1
abbrev evT (v : Ev) : Int := v.2.2.2.1
abbrev evH (v : Ev) : List (List Int × List Int) := v.2.2.2.2.1
abbrev evB (v : Ev) : Int := v.2.2.2.2.2.1
abbrev evG (v : Ev) : Bool := v.2.2.2.2.2.2
abbrev ev0 : Ev := (0, 0, 0, 0, [], 0, false)
def en (ens : List Ev) (j : Int) : Ev := ens.getD j.toNat ev0
def evTy (v : Ev) : List Int := enTy (evH v) (evG v)
def evK (v : Ev) : Int := enKd (evDp v) (evH v) (evG v)
def evBd (v : Ev) : List Int := vlF (vaP (vlF (evH v) CTY)) BNDY
/-- whether it is a digest -/
def evD (v : Ev) : Bool := decide (evK v = 1 ∧ evTy v = DIG)
def evTx (v : Ev) : Bool := decide (evK v = 0) && !(enHg (evH v)) && pAtB (evTy v) TXT 0
/-- whether a line is a mark -/
def mkB (mk x : List Int) : Bool := pAtB x mk 0 && decide (scn blB x (len mk) = len x)
/-- the entities in one -/
def kids (ens : List Ev) (j : Int) : List Int := ((List.range ens.length).map Int.ofNat).filter (fun i => decide (evP (en ens i) = j))
/-- an entity of a row -/
def EnA (Θ : Th) (rs prs : List Int) (j : Int) (v : Ev) : Prop := EnO Θ (gt rs j) (if evP v < 0 then -1 else gt rs (evP v)) j (evDp v) (evF v) (evT v) (gt prs j) (evH v) (evB v) (evG v)
/-- all entities, when they are done -/
def EnL (Θ : Th) (rs prs : List Int) (ens : List Ev) : Prop := rs.length = ens.length ∧ ∀ j, 0 ≤ j → j < len rs → EnA Θ rs prs j (en ens j) ∧ ∃ c e, Fx Θ (gt prs j) (3, (kids ens j).map (gt rs), c, e)
theorem EnA.le {Θ Θ1 : Th} {rs prs : List Int} {j : Int} {v : Ev} (h : EnA Θ rs prs j v) (L : Le Θ Θ1) : EnA Θ1 rs prs j v := EnO.le h L
theorem EnL.le {Θ Θ1 : Th} {rs prs : List Int} {ens : List Ev} (h : EnL Θ rs prs ens) (L : Le Θ Θ1) : EnL Θ1 rs prs ens := sorry
/-- what is read of an entity's object -/
theorem EnO.at {Θ : Th} {a i no dp f t pr bd : Int} {ps : List (List Int × List Int)} {g : Bool} (h : EnO Θ a i no dp f t pr ps bd g) : ∃ fl rs c e ty cd nm ct F, Fx Θ a (35, F, 0, 0) ∧ F = [i, no, dp, f, t, pr, fl, bd, enKd dp ps g, ty, cd, nm, ct, if enHg ps = true then 1 else 0] ∧ Fx Θ fl (3, rs, c, e) ∧ all2 (PrO Θ) rs ps ∧ Str Θ ty (enTy ps g) ∧ Str Θ cd (enCd ps) ∧ Str Θ nm (enNm ps) ∧ VaO Θ ct (vaH (vlF ps CTY)) (vaP (vlF ps CTY)) := sorry
theorem EnO.kd {Θ : Th} {a i no dp f t pr bd : Int} {ps : List (List Int × List Int)} {g : Bool} (h : EnO Θ a i no dp f t pr ps bd g) : kd Θ a = 35 := sorry
/-- lines put together -/
def jnT : List (List Int) → List Int
  | [] => []
  | x :: r => 10 :: (x ++ jnT r)
def jnL : List (List Int) → List Int
  | [] => []
  | x :: r => x ++ jnT r
def bodF (ls : List (List Int)) (b t : Int) : List Int := jnL ((ls.drop b.toNat).take (t - b).toNat)
section PTA
variable {ω : AO} {d G : Nat} {Θ Θ1 : Th} {a p s q k t b c e el : Int} {x mk rs prs : List Int} {ls : List (List Int)} {ens : List Ev}
theorem u_X20_isMark {Q : Int → Th → Prop} (hd : 8 ≤ d) (hp : kd Θ p = 33) (h3 : gt (vv Θ p) 3 = s) (hl : LiO Θ s ls) (hk : 0 ≤ k) (hx : ls[k.toNat]? = some x) (hxl : len x ≤ 1000000) (hq : Str Θ q mk) (hml : len mk ≤ 1000000) (hQ : ∀ z, z = (if mkB mk x = true then 1 else 0) → Q z Θ) : w2_X20_isMark ω d G p k q Θ Q := sorry
theorem jnT_len : ∀ (L : List (List Int)), len (jnT L) = szL L := sorry
theorem jnL_len : ∀ (L : List (List Int)), len (jnL L) ≤ szL L := sorry
theorem u_X20_body {Q : Int → Th → Prop} {i no dp f pr bd : Int} {ps : List (List Int × List Int)} {g0 : Bool} (hd : 12 ≤ d) (hp : kd Θ p = 33) (h3 : gt (vv Θ p) 3 = s) (hl : LiO Θ s ls) (he : EnO Θ a i no dp f t pr ps bd g0) (hb0 : 0 ≤ bd) (hbt : bd ≤ t) (ht : t ≤ (ls.length : Int)) (hs : szF ls t ≤ 90000) (ht9 : t ≤ 1000000)
    (hG : 5 * len (bodF ls bd t) + 40 ≤ (G : Int)) (hQ : ∀ r Θ', NewS Θ Θ' r (bodF ls bd t) → Q r Θ') : w2_X20_body ω d G p a Θ Q := sorry
/-- the parts of a mail, to be read -/
def PaR (Θ : Th) (p : Int) (rs prs : List Int) (ens : List Ev) (ls : List (List Int)) : Prop := kd Θ p = 33 ∧ (∃ c e, xo Θ (gt (vv Θ p) 0) = (3, rs, c, e)) ∧ LiO Θ (gt (vv Θ p) 3) ls ∧ EnL Θ rs prs ens
theorem EnA.kd {j : Int} {v : Ev} (h : EnA Θ rs prs j v) : kd Θ (gt rs j) = 35 := EnO.kd h
theorem u_X20_whole {Q : Int → Th → Prop} (hd : 4 ≤ d) (h : PaR Θ p rs prs ens ls) (h0 : 0 < len rs) (hQ : Q (gt rs 0) Θ) : w2_X20_whole ω d G p Θ Q := sorry
theorem u_X20_value {n : List Int} {Q : Int → Th → Prop} (hd : 6 ≤ d) (h : PaR Θ p rs prs ens ls) (h0 : 0 < len rs) (hq : Str Θ q n) (hl : (evH (en ens 0)).length ≤ 1000000) (hQ : ∀ r, Str Θ r (vlF (evH (en ens 0)) n) → Q r Θ) : w2_X20_value ω d G p q Θ Q := sorry
/-- whether one has a type, or one of a sort -/
def htB (ty m : List Int) : Bool := pAtB ty m 0 && (decide (len ty = len m) || decide (idx ty 47 0 = len m))
theorem u_X20_hasType {m : List Int} {Q : Int → Th → Prop} (hd : 8 ≤ d) (h : PaR Θ p rs prs ens ls) (hrl : len rs ≤ 1000) (hq : Str Θ q m) (hQ : ∀ z, z = (if ens.any (fun v => htB (evTy v) m) = true then 1 else 0) → Q z Θ) : w2_X20_hasType ω d G p q Θ Q := sorry
end PTA

/-! 68.ac.lean.txt -/
/-! parts: entities in entities -/
set_option maxRecDepth 100000
/-- from where to where parts reach -/
def ptG (mk : List Int) : List (List Int) → Int → Int → List (Int × Int)
  | [], k, q => if 0 ≤ q then [(q, k)] else []
  | x :: r, k, q =>
    if mkB (mk ++ [45, 45]) x = true then (if 0 ≤ q then [(q, k)] else [])
    else if mkB mk x = true then (if 0 ≤ q then [(q, k)] else []) ++ ptG mk r (k + 1) (k + 1)
    else ptG mk r (k + 1) q
def bgK (ls : List (List Int)) (R : List Ev → Int → Int → Bool → Int → Int → List Ev) (ens : List Ev) (v : Ev) (me : Int) : List Ev :=
  if evK v = 2 then R ens me (evDp v + 1) (evD v) (evB v) (evT v)
  else if evK v = 1 then (ptG ([45, 45] ++ evBd v) ((ls.drop (evB v).toNat).take (evT v - evB v).toNat) (evB v) (-1)).foldl (fun e r => R e me (evDp v + 1) (evD v) r.1 r.2) ens
  else ens
/-- a new entity, as its head has it -/
def evN (ls : List (List Int)) (pa dp : Int) (gd : Bool) (f t : Int) : Ev := (pa, dp, f, t, (enH ls f t).1, (enH ls f t).2, gd)
/-- an entity and all that is in it come to a row -/
def bgF (ls : List (List Int)) : Nat → List Ev → Int → Int → Bool → Int → Int → List Ev
  | 0, ens, _, _, _, _, _ => ens
  | n + 1, ens, pa, dp, gd, f, t =>
    if 60 ≤ ens.length then ens else bgK ls (bgF ls n) (ens ++ [evN ls pa dp gd f t]) (evN ls pa dp gd f t) (ens.length : Int)
/-- what it costs -/
def cE (ls : List (List Int)) (v : Ev) : Int := 157 * (szF ls (evB v) - szF ls (evF v)) + 665 + (if evK v = 1 then 800 else 0)
def costL (ls : List (List Int)) : List Ev → Int
  | [] => 0
  | v :: r => cE ls v + costL ls r
theorem costL_app {ls : List (List Int)} {a b : List Ev} : costL ls (a ++ b) = costL ls a + costL ls b := sorry
/-- more entities, each with its head in order -/
def mrE (a b : List Ev) : Prop := ∃ y, b = a ++ y ∧ ∀ v, v ∈ y → evF v ≤ evB v
theorem mrE.rf {a : List Ev} : mrE a a := ⟨[], by rw [List.append_nil], fun v h => by cases h⟩
theorem mrE.tr {a b c : List Ev} (h : mrE a b) (h2 : mrE b c) : mrE a c := sorry
theorem mrE.cost {ls : List (List Int)} {a b : List Ev} (h : mrE a b) : costL ls a ≤ costL ls b := sorry
theorem mrE.fold {R : List Ev → Int → Int → List Ev} (h : ∀ e a b, mrE e (R e a b)) : ∀ (L : List (Int × Int)) (e : List Ev), mrE e (L.foldl (fun e r => R e r.1 r.2) e) := sorry
theorem bgF_mr {ls : List (List Int)} : ∀ (n : Nat) (ens : List Ev) (pa dp : Int) (gd : Bool) (f t : Int), mrE ens (bgF ls n ens pa dp gd f t) := sorry
theorem en_appL {ens : List Ev} {v : Ev} {j : Int} (h0 : 0 ≤ j) (h : j < (ens.length : Int)) (y : List Ev) : en (ens ++ y) j = en ens j := sorry
theorem en_appR {ens : List Ev} {v : Ev} {y : List Ev} : en (ens ++ v :: y) (ens.length : Int) = v := sorry
theorem kids_in {ens : List Ev} {i j : Int} (h : i ∈ kids ens j) : 0 ≤ i ∧ i < (ens.length : Int) ∧ evP (en ens i) = j := sorry
theorem kids_app {ens : List Ev} {v : Ev} {j : Int} : kids (ens ++ [v]) j = kids ens j ++ (if evP v = j then [(ens.length : Int)] else []) := sorry
theorem kids_len {ens : List Ev} {j : Int} : (kids ens j).length ≤ ens.length := sorry
theorem gtL_mem {l : List Int} {j : Int} (h0 : 0 ≤ j) (h : j < len l) : gt l j ∈ l := sorry
theorem memL_gt {l : List Int} {b : Int} (h : b ∈ l) : ∃ j, 0 ≤ j ∧ j < len l ∧ gt l j = b := sorry
/-- parts, as they are found -/
def PaI (Θ : Th) (p el s : Int) (rs prs : List Int) (ens : List Ev) : Prop :=
  (kd Θ p = 33 ∧ gt (vv Θ p) 0 = el ∧ gt (vv Θ p) 3 = s) ∧ ((∃ c e, xo Θ el = (3, rs, c, e) ∧ (c = 0 ∨ 10 ≤ c) ∧ len rs ≤ c ∧ c ≤ 100) ∧ ¬ fz Θ el) ∧ (rs.length = ens.length ∧ prs.length = ens.length ∧ ens.length ≤ 60) ∧
  (∀ j, 0 ≤ j → j < len rs → EnA Θ rs prs j (en ens j) ∧ (-1 ≤ evP (en ens j) ∧ evP (en ens j) < j) ∧ hdOk (evH (en ens j))) ∧ (∀ j, 0 ≤ j → j < len rs → (∃ c e, xo Θ (gt prs j) = (3, (kids ens j).map (gt rs), c, e) ∧ (c = 0 ∨ 10 ≤ c) ∧ len (kids ens j) ≤ c ∧ c ≤ 100) ∧ ¬ fz Θ (gt prs j)) ∧
  (∀ i j, 0 ≤ i → i < j → j < len rs → gt prs i ≠ gt prs j) ∧ ∀ j, 0 ≤ j → j < len rs → gt prs j ≠ el
section PTB
variable {ω : AO} {d G : Nat} {Θ Θ1 Θ2 Θ3 : Th} {a p s q k k2 t b c e el pi l1 dp f pr bd : Int} {x mk rs prs : List Int} {ls : List (List Int)} {ens : List Ev} {ps : List (List Int × List Int)} {gd : Bool}
theorem gt_apL {l m : List Int} {j : Int} (h0 : 0 ≤ j) (h : j < len l) : gt (l ++ m) j = gt l j := by rw [gt_appG h0, if_pos h]
theorem gt_apR {l : List Int} {x : Int} : gt (l ++ [x]) (len l) = x := sorry
theorem EnA.ext {rs' prs' : List Int} {j : Int} {v : Ev} (h : EnA Θ rs prs j v) (h0 : 0 ≤ j) (h1 : j < len rs) (h2 : evP v < j) (h3 : prs.length = rs.length) : EnA Θ (rs ++ rs') (prs ++ prs') j v := sorry
theorem PaI.prs3 (h : PaI Θ p el s rs prs ens) {b : Int} (hb : b = el ∨ b ∈ prs) : kd Θ b = 3 := sorry
theorem adC_100 {c n : Int} (h : c = 0 ∨ 10 ≤ c) (hn : 0 ≤ n) (h2 : n ≤ c) (h3 : n < 60) (h4 : c ≤ 100) : (adC c n = 0 ∨ 10 ≤ adC c n) ∧ n + 1 ≤ adC c n ∧ adC c n ≤ 100 ∧ c ≤ adC c n ∧ adC c n ≤ c + 30 := sorry
/-- one more entity -/
theorem PaI.push (h : PaI Θ p el s rs prs ens) (g : Gr Θ Θ1) (hlt : ens.length < 60) (hza : kd Θ a = 0) (ha : EnO Θ1 a l1 (len rs) dp f t pr ps bd gd) (hpr : xo Θ1 pr = (3, [], 0, e)) (hfp : ¬ fz Θ1 pr) (hz : kd Θ pr = 0) (hok : hdOk ps) (hpa : (pi = -1 ∧ l1 = -1) ∨ (0 ≤ pi ∧ pi < len rs ∧ l1 = gt rs pi))
    (t2 : Θ2 = uq Θ1 el (3, vv Θ1 el ++ [a], adC (cp Θ1 el) (len (vv Θ1 el)), k)) (t3 : (pi < 0 ∧ Θ3 = Θ2) ∨ (0 ≤ pi ∧ Θ3 = uq Θ2 (gt prs pi) (3, vv Θ2 (gt prs pi) ++ [a], adC (cp Θ2 (gt prs pi)) (len (vv Θ2 (gt prs pi))), k2))) :
    GrX (fun b => b = el ∨ b ∈ prs) Θ Θ3 ∧ PaI Θ3 p el s (rs ++ [a]) (prs ++ [pr]) (ens ++ [(pi, dp, f, t, ps, bd, gd)]) := sorry
theorem PaI.gr (h : PaI Θ p el s rs prs ens) (g : Gr Θ Θ1) : PaI Θ1 p el s rs prs ens := sorry
end PTB

/-! 68.ad.lean.txt -/
/-! parts: how they are found -/
set_option maxRecDepth 100000
/-- the contract of begin, for so many levels -/
def BgS (ω : AO) (ls : List (List Int)) (p el s : Int) (n : Nat) : Prop := ∀ (d G : Nat) (Θ : Th) (pi l1 dp f t : Int) (rs prs : List Int) (ens : List Ev) (gd : Bool) (Q : Th → Prop), 18 + n ≤ d → dp + (n : Int) = 9 → 0 ≤ dp → PaI Θ p el s rs prs ens → LiO Θ s ls →
  ((pi = -1 ∧ l1 = -1 ∧ gd = false ∧ dp = 0) ∨ (0 ≤ pi ∧ pi < len rs ∧ l1 = gt rs pi ∧ gd = evD (en ens pi) ∧ dp = evDp (en ens pi) + 1)) → 0 ≤ f → f ≤ t → t ≤ (ls.length : Int) → costL ls (bgF ls n ens pi dp gd f t) - costL ls ens ≤ (G : Int) →
  (∀ Θ' rs' prs', GrX (fun b => b = el ∨ b ∈ prs) Θ Θ' → PaI Θ' p el s (rs ++ rs') (prs ++ prs') (bgF ls n ens pi dp gd f t) → (∀ b, b ∈ prs' → kd Θ b = 0) → Q Θ') → w2_X20_begin ω d G p l1 f t Θ Q
/-- one range after the other -/
abbrev fdR (ls : List (List Int)) (n : Nat) (me : Int) (v : Ev) (L : List (Int × Int)) (ens : List Ev) : List Ev := L.foldl (fun e r => bgF ls n e me (evDp v + 1) (evD v) r.1 r.2) ens
theorem fdR_mr {ls : List (List Int)} {n : Nat} {me : Int} {v : Ev} {L : List (Int × Int)} {ens : List Ev} : mrE ens (fdR ls n me v L ens) := sorry
theorem enKd_1 {dp : Int} {ps : List (List Int × List Int)} {g : Bool} (h : enKd dp ps g = 1) : vlF (vaP (vlF ps CTY)) BNDY ≠ [] ∧ len (vlF (vaP (vlF ps CTY)) BNDY) ≤ 70 := sorry
theorem enKd_8 {ps : List (List Int × List Int)} {g : Bool} : enKd 8 ps g = 0 := by unfold enKd kdF; exact if_pos rfl
section PTC
variable {ω : AO} {Θ Θ1 Θ2 Θ3 : Th} {a p s q k t el me dp : Int} {rs prs : List Int} {ls : List (List Int)} {ens : List Ev} {v : Ev}
theorem PaI.ent (h : PaI Θ p el s rs prs ens) (h0 : 0 ≤ me) (h1 : me < len rs) : ∃ fl frs c e ty cd nm ct F, Fx Θ (gt rs me) (35, F, 0, 0) ∧ F = [if evP (en ens me) < 0 then -1 else gt rs (evP (en ens me)), me, evDp (en ens me), evF (en ens me), evT (en ens me), gt prs me, fl, evB (en ens me), evK (en ens me), ty, cd, nm, ct, if enHg (evH (en ens me)) = true then 1 else 0] ∧ Fx Θ fl (3, frs, c, e) ∧ all2 (PrO Θ) frs (evH (en ens me)) ∧ Str Θ ty (evTy (en ens me)) ∧ Str Θ cd (enCd (evH (en ens me))) ∧ Str Θ nm (enNm (evH (en ens me))) ∧ VaO Θ ct (vaH (vlF (evH (en ens me)) CTY)) (vaP (vlF (evH (en ens me)) CTY)) :=
  EnO.at (h.2.2.2.1 me h0 h1).1
theorem PaI.li (h : PaI Θ p el s rs prs ens) : kd Θ p = 33 ∧ gt (vv Θ p) 3 = s := ⟨h.1.1, h.1.2.2⟩
theorem u_bg148 {n d G : Nat} {Q : Th → Prop} {f : Int} {mk : List Int} {l5 l6 : Int} {E : List Ev} (hd : 19 + n ≤ d) (IH : BgS ω ls p el s n) (hls : ls.length ≤ 1000000) (hsz : szF ls (ls.length : Int) ≤ 90000) (hmk : len mk ≤ 100) (hm : 0 ≤ me) (ht : t ≤ (ls.length : Int)) (hb : 0 ≤ evB v) (hv : evT v = t) (hdp : evDp v + 1 + (n : Int) = 9) (hdp0 : 0 ≤ evDp v)
    (hml : me < len rs) (ha : a = gt rs me) (hQ : ∀ Θ' rs' prs', GrX (fun b => b = el ∨ b ∈ prs) Θ Θ' → PaI Θ' p el s (rs ++ rs') (prs ++ prs') E → (∀ b, b ∈ prs' → kd Θ b = 0) → Q Θ') (h33 : ∀ b, b = el ∨ b ∈ prs → kd Θ b = 3) :
    ∀ (N : Nat) (k q : Int) (g : Nat) (Θ1 : Th) (rs' prs' : List Int) (ens1 : List Ev), (t - k).toNat = N → evB v ≤ k → k ≤ t → -1 ≤ q → q ≤ k → GrX (fun b => b = el ∨ b ∈ prs) Θ Θ1 → PaI Θ1 p el s (rs ++ rs') (prs ++ prs') ens1 → (∀ b, b ∈ prs' → kd Θ b = 0) → en ens1 me = v → LiO Θ1 s ls → Str Θ1 l5 mk → Str Θ1 l6 (mk ++ [45, 45]) → E = fdR ls n me v (ptG mk ((ls.drop k.toNat).take (t - k).toNat) k q) ens1 → (g : Int) + costL ls E - costL ls ens1 ≤ (G : Int) → W2_X20_begin_148 ω d G p t a l5 l6 q k g Θ1 Q := sorry
theorem u_bg116 {n d G : Nat} {Q : Th → Prop} {g : Nat} {l5 : Int} {E : List Ev} {F : List Int} (hd : 19 + n ≤ d) (IH : BgS ω ls p el s n) (hls : ls.length ≤ 1000000) (hsz : szF ls (ls.length : Int) ≤ 90000) (hP : PaI Θ p el s rs prs ens) (hL : LiO Θ s ls) (hm : 0 ≤ me) (hml : me < len rs) (ha : a = gt rs me) (hen : en ens me = v) (hb : 0 ≤ evB v) (hbt : evB v ≤ t) (ht : t ≤ (ls.length : Int)) (hv : evT v = t) (hdp : evDp v + 1 + (n : Int) = 9) (hdp0 : 0 ≤ evDp v) (hbl : len (evBd v) ≤ 70) (a1 : Fx Θ a (35, F, 0, 0)) (h7 : gt F 7 = evB v)
    (hE : E = fdR ls n me v (ptG ([45, 45] ++ evBd v) ((ls.drop (evB v).toNat).take (t - evB v).toNat) (evB v) (-1)) ens) (h5 : Str Θ l5 ([45, 45] ++ evBd v)) (hg : (g : Int) + costL ls E - costL ls ens + 400 ≤ (G : Int)) (hQ : ∀ Θ' rs' prs', GrX (fun b => b = el ∨ b ∈ prs) Θ Θ' → PaI Θ' p el s (rs ++ rs') (prs ++ prs') E → (∀ b, b ∈ prs' → kd Θ b = 0) → Q Θ') : W2_X20_begin_116 ω d G p t a l5 g Θ Q := sorry
theorem u_bg81 {n d G : Nat} {Q : Th → Prop} {g : Nat} {E : List Ev} {F : List Int} {pi fl ty cd nm ct : Int} (hd : 19 + n ≤ d) (IH : BgS ω ls p el s n) (hls : ls.length ≤ 1000000) (hsz : szF ls (ls.length : Int) ≤ 90000) (hP : PaI Θ p el s rs prs ens) (hL : LiO Θ s ls) (hm : 0 ≤ me) (hml : me < len rs) (ha : a = gt rs me) (hen : en ens me = v) (hb : 0 ≤ evB v) (hbt : evB v ≤ t) (ht : t ≤ (ls.length : Int)) (hv : evT v = t) (hdp : evDp v + 1 + (n : Int) = 9) (hdp0 : 0 ≤ evDp v) (hk1 : evK v = 1) (a1 : Fx Θ a (35, F, 0, 0))
    (hF : F = [pi, me, evDp v, evF v, evT v, gt prs me, fl, evB v, evK v, ty, cd, nm, ct, if enHg (evH v) = true then 1 else 0]) (f6 : VaO Θ ct (vaH (vlF (evH v) CTY)) (vaP (vlF (evH v) CTY)))
    (hE : E = fdR ls n me v (ptG ([45, 45] ++ evBd v) ((ls.drop (evB v).toNat).take (t - evB v).toNat) (evB v) (-1)) ens) (hg : (g : Int) + costL ls E - costL ls ens + 800 ≤ (G : Int)) (hQ : ∀ Θ' rs' prs', GrX (fun b => b = el ∨ b ∈ prs) Θ Θ' → PaI Θ' p el s (rs ++ rs') (prs ++ prs') E → (∀ b, b ∈ prs' → kd Θ b = 0) → Q Θ') : W2_X20_begin_81 ω d G p t a g Θ Q := sorry
theorem u_bg60 {n d G : Nat} {Q : Th → Prop} {g : Nat} (hd : 19 + n ≤ d) (hdp : evDp v + 1 + (n : Int) = 9) (hdp0 : 0 ≤ evDp v) (IH : evDp v < 8 → BgS ω ls p el s n) (hls : ls.length ≤ 1000000) (hsz : szF ls (ls.length : Int) ≤ 90000) (hP : PaI Θ p el s rs prs ens) (hL : LiO Θ s ls) (hm : 0 ≤ me) (hml : me < len rs) (ha : a = gt rs me) (hen : en ens me = v) (hb : 0 ≤ evB v) (hbt : evB v ≤ t) (ht : t ≤ (ls.length : Int)) (hv : evT v = t)
    (hg : (g : Int) + costL ls (bgK ls (bgF ls n) ens v me) - costL ls ens + (if evK v = 1 then 800 else 0) ≤ (G : Int)) (hQ : ∀ Θ' rs' prs', GrX (fun b => b = el ∨ b ∈ prs) Θ Θ' → PaI Θ' p el s (rs ++ rs') (prs ++ prs') (bgK ls (bgF ls n) ens v me) → (∀ b, b ∈ prs' → kd Θ b = 0) → Q Θ') : W2_X20_begin_60 ω d G p t a g Θ Q := sorry
theorem u_bgS {n : Nat} (hls : ls.length ≤ 1000000) (hsz : szF ls (ls.length : Int) ≤ 90000) (hlb : ∀ x, x ∈ ls → byt x) (IH : (8 : Int) - n < 8 → BgS ω ls p el s n) : BgS ω ls p el s (n + 1) := sorry
theorem u_X20_begin (hls : ls.length ≤ 1000000) (hsz : szF ls (ls.length : Int) ≤ 90000) (hlb : ∀ x, x ∈ ls → byt x) : ∀ n : Nat, BgS ω ls p el s (n + 1) := sorry
end PTC

/-! 68.ae.lean.txt -/
/-! what is shown -/
set_option maxRecDepth 100000
def HTM : List Int := [116, 101, 120, 116, 47, 104, 116, 109, 108]
def ALTN : List Int := [109, 117, 108, 116, 105, 112, 97, 114, 116, 47, 97, 108, 116, 101, 114, 110, 97, 116, 105, 118, 101]
/-- none of them is a page -/
def plE (ens : List Ev) (l : List Int) : Bool := l.all (fun i => !(decide (evTy (en ens i) = HTM)))
def shG (alt : Bool) (pl : List Int → Bool) : List (List Int) → List Int → Option (List Int) → Option (List Int) → List Int × Option (List Int) × Option (List Int)
  | [], s, la, p => (s, la, p)
  | x :: r, s, la, p => if x = [] then shG alt pl r s la p else shG alt pl r (if alt = true then s else s ++ x) (some x) (if pl x = true then some x else p)
def shO (k : Int) (alt : Bool) (r : List Int × Option (List Int) × Option (List Int)) : List Int :=
  if k = 1 ∧ alt = true then (match r.2.1 with
    | none => r.1
    | some la => match r.2.2 with
      | some p => p
      | none => la) else r.1
def shS (ens : List Ev) (R : Int → List Int) (j : Int) : List Int :=
  shO (evK (en ens j)) (decide (evTy (en ens j) = ALTN)) (shG (decide (evTy (en ens j) = ALTN)) (plE ens) ((kids ens j).map R) (if evTx (en ens j) = true then [j] else []) none none)
/-- what is shown of an entity -/
def shF (ens : List Ev) : Nat → Int → List Int
  | 0, _ => []
  | n + 1, j => shS ens (shF ens n) j
/-- one behind the other -/
def chT (P : Int → Int → Prop) : Int → List Int → Int → Prop
  | s, [], e => s = e
  | s, k :: r, e => k = s ∧ ∃ m, P s m ∧ chT P m r e
/-- what is in an entity stands behind it -/
def Tr (ens : List Ev) : Nat → Int → Int → Prop
  | 0, _, _ => False
  | n + 1, j, e => j < e ∧ chT (Tr ens n) (j + 1) (kids ens j) e
theorem chT_le {P : Int → Int → Prop} (h : ∀ s m, P s m → s < m) : ∀ (r : List Int) (s e : Int), chT P s r e → s ≤ e := sorry
theorem Tr_lt {ens : List Ev} : ∀ (n : Nat) (s m : Int), Tr ens n s m → s < m := sorry
/-- a Shown -/
def ShO (Θ : Th) (r : Int) (rs l : List Int) : Prop := ∃ q c e, Fx Θ r (38, [q], 0, 0) ∧ Fx Θ q (3, l.map (gt rs), c, e)
theorem ShO.le {Θ Θ1 : Th} {r : Int} {rs l : List Int} (h : ShO Θ r rs l) (L : Le Θ Θ1) : ShO Θ1 r rs l := sorry
def shQ (Θ : Th) (x : Int) (rs : List Int) (M : Int) (o : Option (List Int)) : Prop := match o with
  | none => x = -1
  | some l => ShO Θ x rs l ∧ 0 ≤ x ∧ len l ≤ M ∧ ∀ i, i ∈ l → 0 ≤ i ∧ i < len rs
theorem shQ.le {Θ Θ1 : Th} {x M : Int} {rs : List Int} {o : Option (List Int)} (h : shQ Θ x rs M o) (L : Le Θ Θ1) : shQ Θ1 x rs M o := sorry
section SHW
variable {ω : AO} {Θ Θ1 : Th} {a p s q k t b c e el j r : Int} {rs prs l : List Int} {ls : List (List Int)} {ens : List Ev} {v : Ev}
theorem EnL.ent (h : EnL Θ rs prs ens) (h0 : 0 ≤ j) (h1 : j < len rs) : ∃ fl frs c e ty cd nm ct F, Fx Θ (gt rs j) (35, F, 0, 0) ∧ F = [if evP (en ens j) < 0 then -1 else gt rs (evP (en ens j)), j, evDp (en ens j), evF (en ens j), evT (en ens j), gt prs j, fl, evB (en ens j), evK (en ens j), ty, cd, nm, ct, if enHg (evH (en ens j)) = true then 1 else 0] ∧ Fx Θ fl (3, frs, c, e) ∧ all2 (PrO Θ) frs (evH (en ens j)) ∧ Str Θ ty (evTy (en ens j)) ∧ Str Θ cd (enCd (evH (en ens j))) ∧ Str Θ nm (enNm (evH (en ens j))) ∧ VaO Θ ct (vaH (vlF (evH (en ens j)) CTY)) (vaP (vlF (evH (en ens j)) CTY)) :=
  EnO.at (h.2 j h0 h1).1
theorem u_X25_init {d G : Nat} {Q : Th → Prop} (hd : 5 ≤ d) (h : xo Θ a = (38, [-1], 0, 0)) (hf : ¬ fz Θ a) (hG : 1 ≤ G) (hQ : ∀ Θ' q e, GrX (· = a) Θ Θ' → xo Θ' a = (38, [q], 0, 0) → ¬ fz Θ' a → xo Θ' q = (3, [], 0, e) → ¬ fz Θ' q → kd Θ q = 0 → q ≠ a → Q Θ') : w2_X25_init ω d G a Θ Q := sorry
theorem u_X25_isPlain {d G : Nat} {Q : Int → Th → Prop} (hd : 5 ≤ d) (h : ShO Θ r rs l) (hE : EnL Θ rs prs ens) (hl : len l ≤ 1000) (hm : ∀ i, i ∈ l → 0 ≤ i ∧ i < len rs) (hQ : ∀ z, z = (if plE ens l = true then 1 else 0) → Q z Θ) : w2_X25_isPlain ω d G r Θ Q := sorry
theorem alC_le {c n k : Int} (h : c = 0 ∨ 10 ≤ c) (hn : 0 ≤ n) (h1 : n ≤ c) (hk : 0 ≤ k) (h2 : n + k ≤ 60) (h3 : c ≤ 100) : (alC c n k = 0 ∨ 10 ≤ alC c n k) ∧ n + k ≤ alC c n k ∧ alC c n k ≤ 100 ∧ alC c n k - c ≤ 60 ∧ c ≤ alC c n k := sorry
/-- the contract of Shown.of -/
theorem u_X25_of (hrl : len rs ≤ 60) : ∀ (n : Nat) {d G : Nat} {Θ : Th} {j e : Int} {Q : Int → Th → Prop}, 12 + n ≤ d → EnL Θ rs prs ens → 0 ≤ j → j < len rs → Tr ens n j e → e ≤ len rs → 110 * (e - j) - 85 ≤ (G : Int) → (∀ r Θ', Gr Θ Θ' → ShO Θ' r rs (shF ens n j) → 0 ≤ r → len (shF ens n j) ≤ e - j → (∀ i, i ∈ shF ens n j → 0 ≤ i ∧ i < len rs) → Q r Θ') → w2_X25_of ω d G (gt rs j) Θ Q := sorry
end SHW

/-! 68.af.lean.txt -/
/-! parts: trees -/
set_option maxRecDepth 100000
/-- what is around an entity stands ahead of it -/
def WFe (ens : List Ev) : Prop := ∀ i, 0 ≤ i → i < (ens.length : Int) → evP (en ens i) < i
theorem kids_more {E Y : List Ev} {j : Int} (h : ∀ v, v ∈ Y → evP v ≠ j) : kids (E ++ Y) j = kids E j := sorry
theorem chT_mono {P P' : Int → Int → Prop} {lo hi : Int} (hlt : ∀ s m, P s m → s < m) (h : ∀ s m, lo ≤ s → m ≤ hi → P s m → P' s m) : ∀ (r : List Int) (s e : Int), lo ≤ s → e ≤ hi → chT P s r e → chT P' s r e := sorry
theorem chT_snoc {P : Int → Int → Prop} {e : Int} : ∀ (r : List Int) (s m : Int), chT P s r m → P m e → chT P s (r ++ [m]) e := sorry
theorem Tr_ext {E Y : List Ev} : ∀ (n : Nat) (j e : Int), Tr E n j e → (∀ v, v ∈ Y → evP v < j ∨ e ≤ evP v) → Tr (E ++ Y) n j e := sorry
/-- what begin makes is a tree -/
def BT (ls : List (List Int)) (n : Nat) : Prop := ∀ (ens : List Ev) (pa dp : Int) (gd : Bool) (f t : Int), WFe ens → pa < (ens.length : Int) → dp + (n : Int) = 9 → 0 ≤ dp → ens.length < 60 →
  WFe (bgF ls n ens pa dp gd f t) ∧ (∃ y, bgF ls n ens pa dp gd f t = ens ++ evN ls pa dp gd f t :: y ∧ ∀ v, v ∈ y → (ens.length : Int) ≤ evP v) ∧ Tr (bgF ls n ens pa dp gd f t) n (ens.length : Int) ((bgF ls n ens pa dp gd f t).length : Int)
theorem WFe.app {ens : List Ev} {v : Ev} (h : WFe ens) (hv : evP v < (ens.length : Int)) : WFe (ens ++ [v]) := sorry
theorem kids_nil {ens : List Ev} {j : Int} (h : WFe ens) (hj : (ens.length : Int) ≤ j) : kids ens j = [] := sorry
theorem bt_step {ls : List (List Int)} {n : Nat} (IH : (8 : Int) - n < 8 → BT ls n) : BT ls (n + 1) := sorry
theorem bt_all {ls : List (List Int)} : ∀ n : Nat, BT ls (n + 1) := sorry
/-- the entities of a mail -/
def ptE (l : List Int) : List Ev := bgF (lsG l 0) 9 [] (-1) 0 false 0 ((lsG l 0).length : Int)
theorem ptE_tr {l : List Int} : 0 < (ptE l).length ∧ WFe (ptE l) ∧ Tr (ptE l) 9 0 ((ptE l).length : Int) := sorry
theorem lsG_sz {l : List Int} : ∀ (N : Nat) (k : Int), (len l + 1 - k).toNat = N → 0 ≤ k → szL (lsG l k) ≤ (N : Int) ∧ ∀ x, x ∈ lsG l k → len x ≤ len l := sorry
theorem lsG_byt {l : List Int} (hb : byt l) : ∀ (N : Nat) (k : Int), (len l + 1 - k).toNat = N → 0 ≤ k → ∀ x, x ∈ lsG l k → byt x := sorry
/-! 68.ag.lean.txt -/
/-! parts: all of a mail -/
set_option maxRecDepth 100000
/-- what hangs on -/
def hgF (ens : List Ev) (sh : List Int) : List Int := ((List.range ens.length).map Int.ofNat).filter (fun i => decide (evK (en ens i) = 0) && (!(sh.contains i) && (enHg (evH (en ens i)) || !(pAtB (evTy (en ens i)) TXT 0))))
def hgP (ens : List Ev) (sh : List Int) (i : Int) : Bool := decide (evK (en ens i) = 0) && (!(sh.contains i) && (enHg (evH (en ens i)) || !(pAtB (evTy (en ens i)) TXT 0)))
/-- the first ones of them -/
def hgT (ens : List Ev) (sh : List Int) (k : Nat) : List Int := ((List.range k).map Int.ofNat).filter (hgP ens sh)
theorem hgT_s {ens : List Ev} {sh : List Int} {k : Nat} : hgT ens sh (k + 1) = hgT ens sh k ++ (if hgP ens sh (k : Int) = true then [(k : Int)] else []) := sorry
theorem hgT_len {ens : List Ev} {sh : List Int} {k : Nat} : (hgT ens sh k).length ≤ k := sorry
theorem hgT_in {ens : List Ev} {sh : List Int} {k : Nat} : ∀ i, i ∈ hgT ens sh k → 0 ≤ i ∧ i < (k : Int) := sorry
/-- all of a mail's parts: what is shown, what hangs on -/
def PtO (Θ : Th) (p : Int) (rs prs : List Int) (ls : List (List Int)) (E : List Ev) (sh hg : List Int) : Prop := ∃ el s1 s2 li c1 e1 c2 e2 c3 e3, Fx Θ p (33, [el, s1, s2, li], 0, 0) ∧ Fx Θ el (3, rs, c1, e1) ∧ Fx Θ s1 (3, sh.map (gt rs), c2, e2) ∧ Fx Θ s2 (3, hg.map (gt rs), c3, e3) ∧ LiO Θ li ls ∧ EnL Θ rs prs E
/-- where bodies begin -/
theorem bgF_bd {ls : List (List Int)} : ∀ (n : Nat) (ens : List Ev) (pa dp : Int) (gd : Bool) (f t : Int), 0 ≤ f → (∀ v, v ∈ ens → 0 ≤ evB v) → ∀ v, v ∈ bgF ls n ens pa dp gd f t → 0 ≤ evB v := sorry
theorem ptE_bd {l : List Int} {j : Int} (h0 : 0 ≤ j) (h1 : j < ((ptE l).length : Int)) : 0 ≤ evB (en (ptE l) j) := sorry
section PTD
variable {ω : AO} {Θ Θ1 : Th} {a p s q k t b c e el j r : Int} {rs prs l sh hg : List Int} {ls : List (List Int)} {ens E : List Ev} {v : Ev}
theorem PtO.le (h : PtO Θ p rs prs ls E sh hg) (L : Le Θ Θ1) : PtO Θ1 p rs prs ls E sh hg := sorry
theorem PtO.rd (h : PtO Θ p rs prs ls E sh hg) : PaR Θ p rs prs E ls := sorry
theorem EnL.inj (h : EnL Θ rs prs ens) {i j : Int} (hi : 0 ≤ i ∧ i < len rs) (hj : 0 ≤ j ∧ j < len rs) (he : gt rs i = gt rs j) : i = j := sorry
theorem idx_map {i : Int} (h : EnL Θ rs prs ens) (hm : ∀ x, x ∈ sh → 0 ≤ x ∧ x < len rs) (hi : 0 ≤ i ∧ i < len rs) : (0 ≤ idx (sh.map (gt rs)) (gt rs i) 0) ↔ sh.contains i = true := sorry
theorem hgT_fin {ens : List Ev} {sh : List Int} : hgT ens sh ens.length = hgF ens sh := rfl
/-- the loop over all entities -/
theorem u_pt83 {d G : Nat} {Q : Th → Prop} {e0 q h2 s1 li cs es c1 : Int} {g0 : Nat} (hd : 10 ≤ d) (kP : kd Θ p = 33) (zh : kd Θ h2 = 0) (zq : kd Θ q = 0) (nhq : h2 ≠ q) (nhe : h2 ≠ el) (nqe : q ≠ el) (nph : p ≠ h2) (npq : p ≠ q) (hrl : len rs ≤ 60) (hel : rs.length = E.length) (hsh : ∀ i, i ∈ sh → 0 ≤ i ∧ i < len rs)
    (hQ : ∀ Θ' c e, GrX (· = p) Θ Θ' → xo Θ' p = (33, [el, s1, h2, li], 0, 0) → xo Θ' el = (3, rs, c1, e0) → xo Θ' h2 = (3, (hgF E sh).map (gt rs), c, e) → EnL Θ' rs prs E → Fx Θ' s1 (3, sh.map (gt rs), cs, es) → Le Θ1 Θ' → Q Θ') (hG : (g0 : Int) + 100 ≤ (G : Int)) :
    ∀ (N : Nat) (k u c e : Int) (g : Nat) (Θ2 : Th), (len rs - k).toNat = N → 0 ≤ k → k ≤ len rs → GrX (· = p) Θ Θ2 → Le Θ1 Θ2 → xo Θ2 p = (33, [el, s1, h2, li], 0, 0) → xo Θ2 el = (3, rs, c1, e0) → (xo Θ2 h2 = (3, (hgT E sh k.toNat).map (gt rs), c, e) ∧ ¬ fz Θ2 h2 ∧ (c = 0 ∨ 10 ≤ c) ∧ len (hgT E sh k.toNat) ≤ c ∧ c ≤ 100) → (xo Θ2 q = (14, [k, u, e0, el], 0, 0) ∧ ¬ fz Θ2 q) → EnL Θ2 rs prs E → Fx Θ2 s1 (3, sh.map (gt rs), cs, es) → (g : Int) ≤ g0 + c → W2_X20_init_83 ω d G p q g Θ2 Q := sorry
theorem u_X20_init {d G : Nat} {Q : Th → Prop} (hd : 30 ≤ d) (h : xo Θ p = (33, [-1, -1, -1, -1], 0, 0)) (hf : ¬ fz Θ p) (hs : Str Θ s l) (hb : byt l) (hl : len l ≤ 80000) (hG : 9 * len l + costL (lsG l 0) (ptE l) + 110 * ((ptE l).length : Int) + 200 ≤ (G : Int))
    (hQ : ∀ Θ' rs prs, GrX (· = p) Θ Θ' → PtO (fr Θ' (fun b => b = p ∨ kd Θ b = 0)) p rs prs (lsG l 0) (ptE l) (shF (ptE l) 9 0) (hgF (ptE l) (shF (ptE l) 9 0)) → len rs ≤ 60 → 0 < len rs → (∀ i, i ∈ shF (ptE l) 9 0 → 0 ≤ i ∧ i < len rs) → (∀ j, 0 ≤ j → j < len rs → hdOk (evH (en (ptE l) j)) ∧ 0 ≤ evB (en (ptE l) j)) → Q (fr Θ' (fun b => b = p ∨ kd Θ b = 0))) : w2_X20_init ω d G p s Θ Q := sorry
end PTD

