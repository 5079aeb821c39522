/-! 73.aa.lean.txt -/
/-! segments -/
set_option maxRecDepth 100000
def w2_X14_init (ω : AO) (d G : Nat) (l0 l1 : Int) (Θ : Th) (Q : Th → Prop) : Prop := Hid (∀ S, bel S → R2 ω S Θ → Ctr ω yX14_init cX14_init 7 none d G [(2, l0), (2, l1)] S (eU S (q2U ω Θ Q)))
def w2_X14_isDir (ω : AO) (d G : Nat) (l0 l1 : Int) (Θ : Th) (Q : Int → Th → Prop) : Prop := Hid (∀ S, bel S → R2 ω S Θ → Ctr ω yX14_isDir cX14_isDir 5 (some .boolean) d G [(2, l0), (2, l1)] S (eZ S (q2 ω Θ Q)))
def w2_X14_flagsOf (ω : AO) (d G : Nat) (l0 : Int) (Θ : Th) (Q : Int → Th → Prop) : Prop := Hid (∀ S, bel S → R2 ω S Θ → Ctr ω yX14_flagsOf cX14_flagsOf 5 (some .int) d G [(2, l0)] S (eI S (q2 ω Θ Q)))
def w2_X15_init (ω : AO) (d G : Nat) (l0 l1 : Int) (Θ : Th) (Q : Th → Prop) : Prop := Hid (∀ S, bel S → R2 ω S Θ → Ctr ω yX15_init cX15_init 2 none d G [(2, l0), (2, l1)] S (eU S (q2U ω Θ Q)))
def w2_X15_keyOf (ω : AO) (d G : Nat) (l0 : Int) (Θ : Th) (Q : Int → Th → Prop) : Prop := Hid (∀ S, bel S → R2 ω S Θ → Ctr ω yX15_keyOf cX15_keyOf 3 (some (.object "java/lang/String")) d G [(2, l0)] S (eA S (q2 ω Θ Q)))
def w2_X15_begins (ω : AO) (d G : Nat) (l0 l1 l2 : Int) (Θ : Th) (Q : Int → Th → Prop) : Prop := Hid (∀ S, bel S → R2 ω S Θ → Ctr ω yX15_begins cX15_begins 5 (some .boolean) d G [(2, l0), (0, l1), (2, l2)] S (eZ S (q2 ω Θ Q)))
def w2_X15_inAngles (ω : AO) (d G : Nat) (l0 : Int) (Θ : Th) (Q : Int → Th → Prop) : Prop := Hid (∀ S, bel S → R2 ω S Θ → Ctr ω yX15_inAngles cX15_inAngles 4 (some (.object "java/lang/String")) d G [(2, l0)] S (eA S (q2 ω Θ Q)))
def w2_X18_init (ω : AO) (d G : Nat) (l0 l1 l2 : Int) (Θ : Th) (Q : Th → Prop) : Prop := Hid (∀ S, bel S → R2 ω S Θ → Ctr ω yX18_init cX18_init 3 none d G [(2, l0), (2, l1), (0, l2)] S (eU S (q2U ω Θ Q)))
def w2_X18_file (ω : AO) (d G : Nat) (l0 : Int) (Θ : Th) (Q : Int → Th → Prop) : Prop := Hid (∀ S, bel S → R2 ω S Θ → Ctr ω yX18_file cX18_file 1 (some (.object "MailWorks$Stored")) d G [(2, l0)] S (eA S (q2 ω Θ Q)))
def w2_X18_message (ω : AO) (d G : Nat) (l0 : Int) (Θ : Th) (Q : Int → Th → Prop) : Prop := Hid (∀ S, bel S → R2 ω S Θ → Ctr ω yX18_message cX18_message 1 (some .int) d G [(2, l0)] S (eI S (q2 ω Θ Q)))
def w2_X13_init (ω : AO) (d G : Nat) (l0 l1 : Int) (Θ : Th) (Q : Th → Prop) : Prop := Hid (∀ S, bel S → R2 ω S Θ → Ctr ω yX13_init cX13_init 2 none d G [(2, l0), (2, l1)] S (eU S (q2U ω Θ Q)))
def w2_X1_isQuoted (ω : AO) (d G : Nat) (l0 l1 : Int) (Θ : Th) (Q : Int → Th → Prop) : Prop := Hid (∀ S, bel S → R2 ω S Θ → Ctr ω yX1_isQuoted cX1_isQuoted 3 (some .boolean) d G [(2, l0), (0, l1)] S (eZ S (q2 ω Θ Q)))
def w2_X1_close (ω : AO) (d G : Nat) (l0 l1 l2 : Int) (Θ : Th) (Q : Th → Prop) : Prop := Hid (∀ S, bel S → R2 ω S Θ → Ctr ω yX1_close cX1_close 3 none d G [(2, l0), (2, l1), (0, l2)] S (eU S (q2U ω Θ Q)))
def w2_X1_messagesIn (ω : AO) (d G : Nat) (l0 : Int) (Θ : Th) (Q : Int → Th → Prop) : Prop := Hid (∀ S, bel S → R2 ω S Θ → Ctr ω yX1_messagesIn cX1_messagesIn 8 (some (.object "java/util/ArrayList")) d G [(2, l0)] S (eA S (q2 ω Θ Q)))
def w2_X13_messages (ω : AO) (d G : Nat) (l0 : Int) (Θ : Th) (Q : Int → Th → Prop) : Prop := Hid (∀ S, bel S → R2 ω S Θ → Ctr ω yX13_messages cX13_messages 2 (some (.object "java/util/ArrayList")) d G [(2, l0)] S (eA S (q2 ω Θ Q)))
def w2_X13_isChanged (ω : AO) (d G : Nat) (l0 : Int) (Θ : Th) (Q : Int → Th → Prop) : Prop := Hid (∀ S, bel S → R2 ω S Θ → Ctr ω yX13_isChanged cX13_isChanged 1 (some .boolean) d G [(2, l0)] S (eZ S (q2 ω Θ Q)))
theorem lm_X14_9 : VLk RX14 9 2 yJ2_lastIndexOf cJ2_lastIndexOf 2 (some .int) 1 := sorry
theorem lm_X14_34 : VLk RX14 34 2 yJ2_substring cJ2_substring 5 (some (.object "java/lang/String")) 2 := sorry
theorem lm_X14_38 : VLk RX14 38 2 yJ2_substring_2 cJ2_substring_2 2 (some (.object "java/lang/String")) 1 := sorry
theorem lm_X14_43 : SLk RX14 43 yX14_isDir cX14_isDir 5 (some .boolean) 2 := sorry
theorem lm_X14_17 : VLk RX14 17 2 yJ2_endsWith cJ2_endsWith 2 (some .boolean) 1 := sorry
theorem lm_X14_21 : VLk RX14 21 2 yJ2_length cJ2_length 1 (some .int) 0 := sorry
theorem lm_X14_49 : VLk RX14 49 2 yJ2_isEmpty cJ2_isEmpty 1 (some .boolean) 0 := sorry
theorem lm_X14_53 : VLk RX14 53 2 yJ2_charAt cJ2_charAt 2 (some .char) 1 := sorry
theorem lf_X14_25_27 : FLk RX14 25 27 0 .int true := sorry
theorem lf_X14_31_27 : FLk RX14 31 27 1 .int true := sorry
theorem lm_X14_57 : SLk RX14 57 yX14_flagsOf cX14_flagsOf 5 (some .int) 1 := sorry
theorem lm_X14_63 : VLk RX14 63 2 yJ2_indexOf cJ2_indexOf 3 (some .int) 1 := sorry
theorem lf_X15_9_28 : FLk RX15 9 28 1 (.object "java/lang/String") true := sorry
theorem lm_X15_15 : SLk RX15 15 yX15_keyOf cX15_keyOf 3 (some (.object "java/lang/String")) 1 := sorry
theorem lf_X15_19_28 : FLk RX15 19 28 0 (.object "java/lang/String") true := sorry
theorem lm_X15_22 : VLk RX15 22 2 yJ2_length cJ2_length 1 (some .int) 0 := sorry
theorem lm_X15_28 : VLk RX15 28 2 yJ2_charAt cJ2_charAt 2 (some .char) 1 := sorry
theorem lm_X15_32 : VLk RX15 32 2 yJ2_indexOf_2 cJ2_indexOf_2 3 (some .int) 2 := sorry
theorem lm_X15_38 : SLk RX15 38 yX15_begins cX15_begins 5 (some .boolean) 3 := sorry
theorem lm_X15_42 : VLk RX15 42 2 yJ2_substring cJ2_substring 5 (some (.object "java/lang/String")) 2 := sorry
theorem lm_X15_46 : SLk RX15 46 yX15_inAngles cX15_inAngles 4 (some (.object "java/lang/String")) 1 := sorry
theorem lm_X15_51 : VLk RX15 51 2 yJ2_indexOf_3 cJ2_indexOf_3 2 (some .int) 1 := sorry
theorem lf_X18_7_31 : FLk RX18 7 31 0 (.object "MailWorks$Stored") true := sorry
theorem lf_X18_13_31 : FLk RX18 13 31 1 .int true := sorry
theorem lr_X18_7_31 : FLkR RX18 7 31 0 (.object "MailWorks$Stored") := sorry
theorem lr_X18_13_31 : FLkR RX18 13 31 1 .int := sorry
theorem lf_X13_9_26 : FLk RX13 9 26 0 (.object "java/lang/String") true := sorry
theorem lm_X13_17 : ILk RX13 17 yX14_init cX14_init 7 1 := sorry
theorem lf_X13_20_26 : FLk RX13 20 26 1 (.object "MailWorks$Label") true := sorry
theorem lm_X1_143 : VLk RX1 143 2 yJ2_startsWith cJ2_startsWith 8 (some .boolean) 2 := sorry
theorem lm_X1_162 : VLk RX1 162 1 yJ1_setLength cJ1_setLength 2 none 1 := sorry
theorem lm_X1_168 : VLk RX1 168 1 yJ1_toString cJ1_toString 1 (some (.object "java/lang/String")) 0 := sorry
theorem lm_X1_172 : ILk RX1 172 yX15_init cX15_init 2 1 := sorry
theorem lm_X1_147 : SLk RX1 147 yX1_close cX1_close 3 none 3 := sorry
theorem lm_X1_138 : VLk RX1 138 2 yJ2_indexOf_2 cJ2_indexOf_2 3 (some .int) 2 := sorry
theorem lm_X1_153 : ILk RX1 153 yJ1_init cJ1_init 1 0 := sorry
theorem lm_X1_154 : VLk RX1 154 1 yJ1_length cJ1_length 1 (some .int) 0 := sorry
theorem lm_X1_155 : SLk RX1 155 yX1_isQuoted cX1_isQuoted 3 (some .boolean) 2 := sorry
theorem lm_X1_158 : VLk RX1 158 1 yJ1_append_4 cJ1_append_4 4 (some (.object "java/lang/StringBuilde\x72")) 3 := sorry
theorem lr_X13_20_26 : FLkR RX13 20 26 1 (.object "MailWorks$Label") := sorry
theorem lr_X13_24_27 : FLkR RX13 24 27 0 .int := sorry
theorem lm_X13_37 : ILk RX13 37 yJ7_init cJ7_init 1 0 := sorry
theorem lr_X13_28_26 : FLkR RX13 28 26 2 (.object "java/lang/String") := sorry
theorem lm_X13_40 : ILk RX13 40 yX15_init cX15_init 2 1 := sorry
theorem lm_X13_41 : VLk RX13 41 3 yJ7_add cJ7_add 2 (some .boolean) 1 := sorry
theorem ln_X13_31 : NLk RX13 31 yX1_messagesIn cX1_messagesIn 8 (some (.object "java/util/ArrayList")) 1 := sorry
theorem lr_X13_45_26 : FLkR RX13 45 26 3 .int := sorry
theorem lr_X13_48_26 : FLkR RX13 48 26 5 .int := sorry
theorem lr_X13_51_26 : FLkR RX13 51 26 4 (.object "java/lang/String") := sorry
theorem lm_X13_54 : VLk RX13 54 2 yJ2_equals cJ2_equals 3 (some .boolean) 1 := sorry
def W2_X14_init_85 (ω : AO) (d G : Nat) (l0 l4 l5 : Int) (g : Nat) (Θ : Th) (Q : Th → Prop) : Prop := Hid (SJ2 ω yX14_init cX14_init 7 none d G (fun Sz Θz => (eU Sz (q2U ω Θz Q))) 85 [(2, l0), vN, vN, vN, (2, l4), (0, l5), vN] [] g Θ)
def W2_X14_init_119 (ω : AO) (d G : Nat) (l0 l4 l5 : Int) (g : Nat) (Θ : Th) (Q : Th → Prop) : Prop := Hid (SJ2 ω yX14_init cX14_init 7 none d G (fun Sz Θz => (eU Sz (q2U ω Θz Q))) 119 [(2, l0), vN, vN, vN, (2, l4), (0, l5), vN] [] g Θ)
def W2_X14_init_37 (ω : AO) (d G : Nat) (l0 s0 : Int) (g : Nat) (Θ : Th) (Q : Th → Prop) : Prop := Hid (SJ2 ω yX14_init cX14_init 7 none d G (fun Sz Θz => (eU Sz (q2U ω Θz Q))) 37 [(2, l0), vN, vN, vN, vN, vN, vN] [(2, s0)] g Θ)
def W2_X14_init_38 (ω : AO) (d G : Nat) (l0 s0 s1 : Int) (g : Nat) (Θ : Th) (Q : Th → Prop) : Prop := Hid (SJ2 ω yX14_init cX14_init 7 none d G (fun Sz Θz => (eU Sz (q2U ω Θz Q))) 38 [(2, l0), vN, vN, vN, vN, vN, vN] [(0, s0), (2, s1)] g Θ)
def W2_X14_init_120 (ω : AO) (d G : Nat) (l0 l4 l5 s0 : Int) (g : Nat) (Θ : Th) (Q : Th → Prop) : Prop := Hid (SJ2 ω yX14_init cX14_init 7 none d G (fun Sz Θz => (eU Sz (q2U ω Θz Q))) 120 [(2, l0), vN, vN, vN, (2, l4), (0, l5), vN] [(0, s0)] g Θ)
def W2_X14_init_133 (ω : AO) (d G : Nat) (l0 l4 l5 l6 s0 s1 : Int) (g : Nat) (Θ : Th) (Q : Th → Prop) : Prop := Hid (SJ2 ω yX14_init cX14_init 7 none d G (fun Sz Θz => (eU Sz (q2U ω Θz Q))) 133 [(2, l0), vN, vN, vN, (2, l4), (0, l5), (0, l6)] [(0, s0), (2, s1)] g Θ)
set_option maxHeartbeats 4000000 in
theorem s2_X14_init {ω : AO} {d G : Nat} {l0 l1 : Int} {Θ : Th} {Q : Th → Prop} (hB : (1 ≤ d) ∧ (0 ≤ l0) ∧ (kd Θ l1 = 2) ∧ ∃ G7 : Nat, (0 + G7 ≤ G) ∧ w2_J2_lastIndexOf ω (d - 1) G7 l1 47 Θ (fun x7 Θ7 => ∀ (L7 : Le Θ Θ7) (r7 : -2147483648 ≤ x7 ∧ x7 < 2147483648), (∀ (c12 : 0 ≤ x7), (0 ≤ (0 : Int) ∧ (0 : Int) ≤ x7 ∧ x7 ≤ len (vv Θ7 l1)) ∧ ((0 : Int) < x7 ∨ wide (vv Θ7 l1) = 0 ∨ vv Θ7 l1 = []) ∧ (7 ≤ d) ∧ (0 + G7 + (x7 - (0 : Int) + 5).toNat ≤ G) ∧ ∀ (x50 : Int) (Θ50 : Th) (e50 : NewS Θ7 Θ50 x50 (sub (vv Θ7 l1) (0 : Int) x7)), (0 ≤ (x7 + 1) ∧ (x7 + 1) ≤ len (vv Θ50 l1)) ∧ ((x7 + 1) < len (vv Θ50 l1) ∨ wide (vv Θ50 l1) = 0 ∨ vv Θ50 l1 = []) ∧ (8 ≤ d) ∧ (0 + G7 + (x7 - (0 : Int) + 5).toNat + (len (vv Θ50 l1) - (x7 + 1) + 5).toNat ≤ G) ∧ ∀ (x58 : Int) (Θ58 : Th) (e58 : NewS Θ50 Θ58 x58 (sub (vv Θ50 l1) (x7 + 1) (len (vv Θ50 l1)))), ∀ (v64 : Int) (h64 : Str Θ58 v64 [110, 101, 119]), ∃ G66 : Nat, (0 + G7 + (x7 - (0 : Int) + 5).toNat + (len (vv Θ50 l1) - (x7 + 1) + 5).toNat + G66 ≤ G) ∧ w2_X14_isDir ω (d - 1) G66 x50 v64 Θ58 (fun x66 Θ66 => ∀ (L66 : Le Θ58 Θ66) (r66 : x66 = 0 ∨ x66 = 1), (∀ (c73 : ¬ x66 = 0), W2_X14_init_85 ω d G l0 x58 x66 (0 + G7 + (x7 - (0 : Int) + 5).toNat + (len (vv Θ50 l1) - (x7 + 1) + 5).toNat + G66) Θ66 Q) ∧ (∀ (c73 : x66 = 0), ∀ (v77 : Int) (h77 : Str Θ66 v77 [99, 117, 114]), ∃ G79 : Nat, (0 + G7 + (x7 - (0 : Int) + 5).toNat + (len (vv Θ50 l1) - (x7 + 1) + 5).toNat + G66 + G79 ≤ G) ∧ w2_X14_isDir ω (d - 1) G79 x50 v77 Θ66 (fun x79 Θ79 => ∀ (L79 : Le Θ66 Θ79) (r79 : x79 = 0 ∨ x79 = 1), (∀ (c82 : x79 = 0), W2_X14_init_119 ω d G l0 x58 x66 (0 + G7 + (x7 - (0 : Int) + 5).toNat + (len (vv Θ50 l1) - (x7 + 1) + 5).toNat + G66 + G79) Θ79 Q) ∧ (∀ (c82 : ¬ x79 = 0), W2_X14_init_85 ω d G l0 x58 x66 (0 + G7 + (x7 - (0 : Int) + 5).toNat + (len (vv Θ50 l1) - (x7 + 1) + 5).toNat + G66 + G79) Θ79 Q))))) ∧ (∀ (c12 : x7 < 0), ∀ (v17 : Int) (h17 : Str Θ7 v17 [46, 109, 98, 111, 120]), ∃ G19 : Nat, (0 + G7 + G19 ≤ G) ∧ w2_J2_endsWith ω (d - 1) G19 l1 v17 Θ7 (fun x19 Θ19 => ∀ (L19 : Le Θ7 Θ19) (r19 : x19 = 0 ∨ x19 = 1), (∀ (c22 : x19 = 0), W2_X14_init_37 ω d G l0 l0 (0 + G7 + G19) Θ19 Q) ∧ (∀ (c22 : ¬ x19 = 0), (2 ≤ d) ∧ (0 + G7 + G19 ≤ G) ∧ ∀ (x26 : Int) (e26 : x26 = len (vv Θ19 l1)) (r26 : -2147483648 ≤ x26 ∧ x26 < 2147483648), (∀ (c30 : x26 ≤ 5), W2_X14_init_37 ω d G l0 l0 (0 + G7 + G19) Θ19 Q) ∧ (∀ (c30 : 5 < x26), W2_X14_init_38 ω d G l0 2 l0 (0 + G7 + G19) Θ19 Q)))))) : w2_X14_init ω d G l0 l1 Θ Q := sorry
set_option maxHeartbeats 4000000 in
theorem s2_X14_init_85 {ω : AO} {d G : Nat} {l0 l4 l5 : Int} {g : Nat} {Θ : Th} {Q : Th → Prop} (hB : (1 ≤ d) ∧ (kd Θ l4 = 2) ∧ (g ≤ G) ∧ ∀ (x87 : Int) (e87 : x87 = if vv Θ l4 = [] then 1 else 0) (r87 : x87 = 0 ∨ x87 = 1), (∀ (c90 : ¬ x87 = 0), W2_X14_init_119 ω d G l0 l4 l5 (g) Θ Q) ∧ (∀ (c90 : x87 = 0), (0 ≤ (0 : Int) ∧ (0 : Int) < len (vv Θ l4)) ∧ (5 ≤ d) ∧ ∀ (x96 : Int) (e96 : x96 = gt (vv Θ l4) (0 : Int)) (r96 : 0 ≤ x96 ∧ x96 < 65536), (∀ (c101 : x96 = 46), W2_X14_init_119 ω d G l0 l4 l5 (g) Θ Q) ∧ (∀ (c101 : ¬ x96 = 46), ∀ (x107 : Int) (e107 : x107 = gt (vv Θ l4) (0 : Int)) (r107 : 0 ≤ x107 ∧ x107 < 65536), (∀ (c112 : x107 = 58), W2_X14_init_119 ω d G l0 l4 l5 (g) Θ Q) ∧ (∀ (c112 : ¬ x107 = 58), W2_X14_init_120 ω d G l0 l4 l5 1 (g) Θ Q)))) : W2_X14_init_85 ω d G l0 l4 l5 g Θ Q := sorry
set_option maxHeartbeats 4000000 in
theorem s2_X14_init_119 {ω : AO} {d G : Nat} {l0 l4 l5 : Int} {g : Nat} {Θ : Th} {Q : Th → Prop} (hB : W2_X14_init_120 ω d G l0 l4 l5 0 (g) Θ Q) : W2_X14_init_119 ω d G l0 l4 l5 g Θ Q := sorry
set_option maxHeartbeats 4000000 in
theorem s2_X14_init_37 {ω : AO} {d G : Nat} {l0 s0 : Int} {g : Nat} {Θ : Th} {Q : Th → Prop} (hB : W2_X14_init_38 ω d G l0 0 s0 (g) Θ Q) : W2_X14_init_37 ω d G l0 s0 g Θ Q := sorry
set_option maxHeartbeats 4000000 in
theorem s2_X14_init_38 {ω : AO} {d G : Nat} {l0 s0 s1 : Int} {g : Nat} {Θ : Th} {Q : Th → Prop} (hB : (kd Θ s1 = 27) ∧ (¬ fz Θ s1) ∧ (-2147483648 ≤ s0 ∧ s0 < 2147483648) ∧ ∀ (Θ38 : Th) (t38 : Θ38 = pf Θ s1 0 s0), (kd Θ38 l0 = 27) ∧ (¬ fz Θ38 l0) ∧ ∀ (Θ43 : Th) (t43 : Θ43 = pf Θ38 l0 1 0), (g ≤ G) ∧ Q Θ43) : W2_X14_init_38 ω d G l0 s0 s1 g Θ Q := sorry
set_option maxHeartbeats 4000000 in
theorem s2_X14_init_120 {ω : AO} {d G : Nat} {l0 l4 l5 s0 : Int} {g : Nat} {Θ : Th} {Q : Th → Prop} (hB : (-2147483648 ≤ s0 ∧ s0 < 2147483648) ∧ (∀ (c125 : s0 = 0), W2_X14_init_133 ω d G l0 l4 l5 s0 0 l0 (g) Θ Q) ∧ (∀ (c125 : ¬ s0 = 0), W2_X14_init_133 ω d G l0 l4 l5 s0 1 l0 (g) Θ Q)) : W2_X14_init_120 ω d G l0 l4 l5 s0 g Θ Q := sorry
set_option maxHeartbeats 4000000 in
theorem s2_X14_init_133 {ω : AO} {d G : Nat} {l0 l4 l5 l6 s0 s1 : Int} {g : Nat} {Θ : Th} {Q : Th → Prop} (hB : (kd Θ s1 = 27) ∧ (¬ fz Θ s1) ∧ (-2147483648 ≤ s0 ∧ s0 < 2147483648) ∧ ∀ (Θ133 : Th) (t133 : Θ133 = pf Θ s1 0 s0), (-2147483648 ≤ l6 ∧ l6 < 2147483648) ∧ (∀ (c139 : l6 = 0), (kd Θ133 l0 = 27) ∧ (¬ fz Θ133 l0) ∧ ∀ (Θ156 : Th) (t156 : Θ156 = pf Θ133 l0 1 0), (g ≤ G) ∧ Q Θ156) ∧ (∀ (c139 : ¬ l6 = 0), (-2147483648 ≤ l5 ∧ l5 < 2147483648) ∧ (∀ (c144 : ¬ l5 = 0), (kd Θ133 l0 = 27) ∧ (¬ fz Θ133 l0) ∧ ∀ (Θ156 : Th) (t156 : Θ156 = pf Θ133 l0 1 0), (g ≤ G) ∧ Q Θ156) ∧ (∀ (c144 : l5 = 0), (1 ≤ d) ∧ ∃ G149 : Nat, (g + G149 ≤ G) ∧ w2_X14_flagsOf ω (d - 1) G149 l4 Θ133 (fun x149 Θ149 => ∀ (L149 : Le Θ133 Θ149) (r149 : -2147483648 ≤ x149 ∧ x149 < 2147483648), (kd Θ149 l0 = 27) ∧ (¬ fz Θ149 l0) ∧ ∀ (Θ156 : Th) (t156 : Θ156 = pf Θ149 l0 1 x149), (g + G149 ≤ G) ∧ Q Θ156)))) : W2_X14_init_133 ω d G l0 l4 l5 l6 s0 s1 g Θ Q := sorry
def W2_X14_isDir_32 (ω : AO) (d G : Nat) (l0 l1 l2 : Int) (g : Nat) (Θ : Th) (Q : Int → Th → Prop) : Prop := Hid (SJ2 ω yX14_isDir cX14_isDir 5 (some .boolean) d G (fun Sz Θz => (eZ Sz (q2 ω Θz Q))) 32 [(2, l0), (2, l1), (0, l2), vN, vN] [] g Θ)
def W2_X14_isDir_37 (ω : AO) (d G : Nat) (l0 l1 l2 l3 l4 : Int) (g : Nat) (Θ : Th) (Q : Int → Th → Prop) : Prop := Hid (SJ2 ω yX14_isDir cX14_isDir 5 (some .boolean) d G (fun Sz Θz => (eZ Sz (q2 ω Θz Q))) 37 [(2, l0), (2, l1), (0, l2), (0, l3), (0, l4)] [] g Θ)
def W2_X14_isDir_71 (ω : AO) (d G : Nat) (l0 l1 l2 l4 : Int) (g : Nat) (Θ : Th) (Q : Int → Th → Prop) : Prop := Hid (SJ2 ω yX14_isDir cX14_isDir 5 (some .boolean) d G (fun Sz Θz => (eZ Sz (q2 ω Θz Q))) 71 [(2, l0), (2, l1), (0, l2), vN, (0, l4)] [] g Θ)
set_option maxHeartbeats 4000000 in
theorem s2_X14_isDir {ω : AO} {d G : Nat} {l0 l1 : Int} {Θ : Th} {Q : Int → Th → Prop} (hB : (1 ≤ d) ∧ (kd Θ l0 = 2) ∧ (2 ≤ d) ∧ ∀ (x1 : Int) (e1 : x1 = len (vv Θ l0)) (r1 : -2147483648 ≤ x1 ∧ x1 < 2147483648), (kd Θ l1 = 2) ∧ ∀ (x5 : Int) (e5 : x5 = len (vv Θ l1)) (r5 : -2147483648 ≤ x5 ∧ x5 < 2147483648), (-2147483648 ≤ (x1 - x5) ∧ (x1 - x5) < 2147483648) ∧ (∀ (c11 : (x1 - x5) < 0), Q 0 Θ) ∧ (∀ (c11 : 0 ≤ (x1 - x5)), (∀ (c15 : (x1 - x5) ≤ 0), W2_X14_isDir_32 ω d G l0 l1 ((x1 - x5)) (0) Θ Q) ∧ (∀ (c15 : 0 < (x1 - x5)), (0 ≤ ((x1 - x5) - 1) ∧ ((x1 - x5) - 1) < len (vv Θ l0)) ∧ (5 ≤ d) ∧ ∀ (x22 : Int) (e22 : x22 = gt (vv Θ l0) ((x1 - x5) - 1)) (r22 : 0 ≤ x22 ∧ x22 < 65536), (∀ (c27 : x22 = 47), W2_X14_isDir_32 ω d G l0 l1 ((x1 - x5)) (0) Θ Q) ∧ (∀ (c27 : ¬ x22 = 47), Q 0 Θ)))) : w2_X14_isDir ω d G l0 l1 Θ Q := sorry
set_option maxHeartbeats 4000000 in
theorem s2_X14_isDir_32 {ω : AO} {d G : Nat} {l0 l1 l2 : Int} {g : Nat} {Θ : Th} {Q : Int → Th → Prop} (hB : W2_X14_isDir_37 ω d G l0 l1 l2 1 0 (g) Θ Q) : W2_X14_isDir_32 ω d G l0 l1 l2 g Θ Q := sorry
set_option maxHeartbeats 4000000 in
theorem s2_X14_isDir_37 {ω : AO} {d G : Nat} {l0 l1 l2 l3 l4 : Int} {g : Nat} {Θ : Th} {Q : Int → Th → Prop} (hB : (1 ≤ d) ∧ (kd Θ l1 = 2) ∧ (2 ≤ d) ∧ (g ≤ G) ∧ ∀ (x40 : Int) (e40 : x40 = len (vv Θ l1)) (r40 : -2147483648 ≤ x40 ∧ x40 < 2147483648), (-2147483648 ≤ l4 ∧ l4 < 2147483648) ∧ (∀ (c43 : x40 ≤ l4), (l3 = 0 ∨ l3 = 1) ∧ Q l3 Θ) ∧ (∀ (c43 : l4 < x40), (-2147483648 ≤ l3 ∧ l3 < 2147483648) ∧ (∀ (c47 : l3 = 0), W2_X14_isDir_71 ω d G l0 l1 l2 l4 (g) Θ Q) ∧ (∀ (c47 : ¬ l3 = 0), (kd Θ l0 = 2) ∧ (0 ≤ (l2 + l4) ∧ (l2 + l4) < len (vv Θ l0)) ∧ (5 ≤ d) ∧ ∀ (x55 : Int) (e55 : x55 = gt (vv Θ l0) (l2 + l4)) (r55 : 0 ≤ x55 ∧ x55 < 65536), (0 ≤ l4 ∧ l4 < len (vv Θ l1)) ∧ ∀ (x61 : Int) (e61 : x61 = gt (vv Θ l1) l4) (r61 : 0 ≤ x61 ∧ x61 < 65536), (∀ (c64 : ¬ x55 = x61), W2_X14_isDir_71 ω d G l0 l1 l2 l4 (g) Θ Q) ∧ (∀ (c64 : x55 = x61), W2_X14_isDir_37 ω d G l0 l1 l2 1 ((l4 + 1)) (g) Θ Q)))) : W2_X14_isDir_37 ω d G l0 l1 l2 l3 l4 g Θ Q := sorry
set_option maxHeartbeats 4000000 in
theorem s2_X14_isDir_71 {ω : AO} {d G : Nat} {l0 l1 l2 l4 : Int} {g : Nat} {Θ : Th} {Q : Int → Th → Prop} (hB : W2_X14_isDir_37 ω d G l0 l1 l2 0 ((l4 + 1)) (g) Θ Q) : W2_X14_isDir_71 ω d G l0 l1 l2 l4 g Θ Q := sorry
def W2_X14_flagsOf_24 (ω : AO) (d G : Nat) (l0 l2 l3 : Int) (g : Nat) (Θ : Th) (Q : Int → Th → Prop) : Prop := Hid (SJ2 ω yX14_flagsOf cX14_flagsOf 5 (some .int) d G (fun Sz Θz => (eI Sz (q2 ω Θz Q))) 24 [(2, l0), vN, (0, l2), (0, l3), vN] [] g Θ)
set_option maxHeartbeats 4000000 in
theorem s2_X14_flagsOf {ω : AO} {d G : Nat} {l0 : Int} {Θ : Th} {Q : Int → Th → Prop} (hB : ∀ (v1 : Int) (h1 : Str Θ v1 [58, 50, 44]), (1 ≤ d) ∧ (kd Θ l0 = 2) ∧ ∃ G3 : Nat, (0 + G3 ≤ G) ∧ w2_J2_indexOf ω (d - 1) G3 l0 v1 Θ (fun x3 Θ3 => ∀ (L3 : Le Θ Θ3) (r3 : -2147483648 ≤ x3 ∧ x3 < 2147483648), (∀ (c10 : 0 ≤ x3), W2_X14_flagsOf_24 ω d G l0 0 ((x3 + 3)) (0 + G3) Θ3 Q) ∧ (∀ (c10 : x3 < 0), (2 ≤ d) ∧ (0 + G3 ≤ G) ∧ ∀ (x14 : Int) (e14 : x14 = len (vv Θ3 l0)) (r14 : -2147483648 ≤ x14 ∧ x14 < 2147483648), W2_X14_flagsOf_24 ω d G l0 0 x14 (0 + G3) Θ3 Q))) : w2_X14_flagsOf ω d G l0 Θ Q := sorry
set_option maxHeartbeats 4000000 in
theorem s2_X14_flagsOf_24 {ω : AO} {d G : Nat} {l0 l2 l3 : Int} {g : Nat} {Θ : Th} {Q : Int → Th → Prop} (hB : (1 ≤ d) ∧ (kd Θ l0 = 2) ∧ (2 ≤ d) ∧ (g ≤ G) ∧ ∀ (x26 : Int) (e26 : x26 = len (vv Θ l0)) (r26 : -2147483648 ≤ x26 ∧ x26 < 2147483648), (-2147483648 ≤ l3 ∧ l3 < 2147483648) ∧ (∀ (c29 : x26 ≤ l3), (-2147483648 ≤ l2 ∧ l2 < 2147483648) ∧ Q l2 Θ) ∧ (∀ (c29 : l3 < x26), (0 ≤ l3 ∧ l3 < len (vv Θ l0)) ∧ (5 ≤ d) ∧ ∀ (x34 : Int) (e34 : x34 = gt (vv Θ l0) l3) (r34 : 0 ≤ x34 ∧ x34 < 65536), (∀ (c43 : x34 < 65), W2_X14_flagsOf_24 ω d G l0 l2 ((l3 + 1)) (g) Θ Q) ∧ (∀ (c43 : 65 ≤ x34), (∀ (c50 : 90 < x34), W2_X14_flagsOf_24 ω d G l0 l2 ((l3 + 1)) (g) Θ Q) ∧ (∀ (c50 : x34 ≤ 90), W2_X14_flagsOf_24 ω d G l0 ((orI l2 (shlI 1 (x34 - 65)))) ((l3 + 1)) (g) Θ Q)))) : W2_X14_flagsOf_24 ω d G l0 l2 l3 g Θ Q := sorry
set_option maxHeartbeats 4000000 in
theorem s2_X15_init {ω : AO} {d G : Nat} {l0 l1 : Int} {Θ : Th} {Q : Th → Prop} (hB : (1 ≤ d) ∧ (0 ≤ l0) ∧ (kd Θ l0 = 28) ∧ (¬ fz Θ l0) ∧ (-1 ≤ l1) ∧ ∀ (Θ6 : Th) (t6 : Θ6 = pf Θ l0 1 l1), ∃ G11 : Nat, (0 + G11 ≤ G) ∧ w2_X15_keyOf ω (d - 1) G11 l1 Θ6 (fun x11 Θ11 => ∀ (L11 : Le Θ6 Θ11) (r11 : -1 ≤ x11), (¬ fz Θ11 l0) ∧ (-1 ≤ x11) ∧ ∀ (Θ14 : Th) (t14 : Θ14 = pf Θ11 l0 0 x11), (0 + G11 ≤ G) ∧ Q Θ14)) : w2_X15_init ω d G l0 l1 Θ Q := sorry
def W2_X15_keyOf_2 (ω : AO) (d G : Nat) (l0 l1 : Int) (g : Nat) (Θ : Th) (Q : Int → Th → Prop) : Prop := Hid (SJ2 ω yX15_keyOf cX15_keyOf 3 (some (.object "java/lang/String")) d G (fun Sz Θz => (eA Sz (q2 ω Θz Q))) 2 [(2, l0), (0, l1), vN] [] g Θ)
def W2_X15_keyOf_37 (ω : AO) (d G : Nat) (l0 l1 l2 : Int) (g : Nat) (Θ : Th) (Q : Int → Th → Prop) : Prop := Hid (SJ2 ω yX15_keyOf cX15_keyOf 3 (some (.object "java/lang/String")) d G (fun Sz Θz => (eA Sz (q2 ω Θz Q))) 37 [(2, l0), (0, l1), (0, l2)] [] g Θ)
set_option maxHeartbeats 4000000 in
theorem s2_X15_keyOf {ω : AO} {d G : Nat} {l0 : Int} {Θ : Th} {Q : Int → Th → Prop} (hB : W2_X15_keyOf_2 ω d G l0 0 (0) Θ Q) : w2_X15_keyOf ω d G l0 Θ Q := sorry
set_option maxHeartbeats 4000000 in
theorem s2_X15_keyOf_2 {ω : AO} {d G : Nat} {l0 l1 : Int} {g : Nat} {Θ : Th} {Q : Int → Th → Prop} (hB : (1 ≤ d) ∧ (kd Θ l0 = 2) ∧ (2 ≤ d) ∧ (g ≤ G) ∧ ∀ (x4 : Int) (e4 : x4 = len (vv Θ l0)) (r4 : -2147483648 ≤ x4 ∧ x4 < 2147483648), (-2147483648 ≤ l1 ∧ l1 < 2147483648) ∧ (∀ (c7 : x4 ≤ l1), ∀ (v64 : Int) (h64 : Str Θ v64 []), Q v64 Θ) ∧ (∀ (c7 : l1 < x4), (0 ≤ l1 ∧ l1 < len (vv Θ l0)) ∧ (5 ≤ d) ∧ ∀ (x12 : Int) (e12 : x12 = gt (vv Θ l0) l1) (r12 : 0 ≤ x12 ∧ x12 < 65536), (∀ (c17 : x12 = 10), ∀ (v64 : Int) (h64 : Str Θ v64 []), Q v64 Θ) ∧ (∀ (c17 : ¬ x12 = 10), (6 ≤ d) ∧ ∀ (x24 : Int) (e24 : x24 = idx (vv Θ l0) (10 : Int) l1) (r24 : -2147483648 ≤ x24 ∧ x24 < 2147483648), (∀ (c29 : 0 ≤ x24), W2_X15_keyOf_37 ω d G l0 l1 x24 (g) Θ Q) ∧ (∀ (c29 : x24 < 0), ∀ (x33 : Int) (e33 : x33 = len (vv Θ l0)) (r33 : -2147483648 ≤ x33 ∧ x33 < 2147483648), W2_X15_keyOf_37 ω d G l0 l1 x33 (g) Θ Q)))) : W2_X15_keyOf_2 ω d G l0 l1 g Θ Q := sorry
set_option maxHeartbeats 4000000 in
theorem s2_X15_keyOf_37 {ω : AO} {d G : Nat} {l0 l1 l2 : Int} {g : Nat} {Θ : Th} {Q : Int → Th → Prop} (hB : ∀ (v39 : Int) (h39 : Str Θ v39 [109, 101, 115, 115, 97, 103, 101, 45, 105, 100, 58]), (1 ≤ d) ∧ ∃ G41 : Nat, (g + G41 ≤ G) ∧ w2_X15_begins ω (d - 1) G41 l0 l1 v39 Θ (fun x41 Θ41 => ∀ (L41 : Le Θ Θ41) (r41 : x41 = 0 ∨ x41 = 1), (∀ (c44 : x41 = 0), W2_X15_keyOf_2 ω d G l0 ((l2 + 1)) (g + G41) Θ41 Q) ∧ (∀ (c44 : ¬ x41 = 0), (kd Θ41 l0 = 2) ∧ (0 ≤ l1 ∧ l1 ≤ l2 ∧ l2 ≤ len (vv Θ41 l0)) ∧ (l1 < l2 ∨ wide (vv Θ41 l0) = 0 ∨ vv Θ41 l0 = []) ∧ (7 ≤ d) ∧ (g + G41 + (l2 - l1 + 5).toNat ≤ G) ∧ ∀ (x50 : Int) (Θ50 : Th) (e50 : NewS Θ41 Θ50 x50 (sub (vv Θ41 l0) l1 l2)), ∃ G53 : Nat, (g + G41 + (l2 - l1 + 5).toNat + G53 ≤ G) ∧ w2_X15_inAngles ω (d - 1) G53 x50 Θ50 (fun x53 Θ53 => ∀ (L53 : Le Θ50 Θ53) (r53 : -1 ≤ x53), (g + G41 + (l2 - l1 + 5).toNat + G53 ≤ G) ∧ (-1 ≤ x53) ∧ Q x53 Θ53)))) : W2_X15_keyOf_37 ω d G l0 l1 l2 g Θ Q := sorry
def W2_X15_begins_17 (ω : AO) (d G : Nat) (l0 l1 l2 l3 : Int) (g : Nat) (Θ : Th) (Q : Int → Th → Prop) : Prop := Hid (SJ2 ω yX15_begins cX15_begins 5 (some .boolean) d G (fun Sz Θz => (eZ Sz (q2 ω Θz Q))) 17 [(2, l0), (0, l1), (2, l2), (0, l3), vN] [] g Θ)
def W2_X15_begins_56 (ω : AO) (d G : Nat) (l0 l1 l2 l3 l4 : Int) (g : Nat) (Θ : Th) (Q : Int → Th → Prop) : Prop := Hid (SJ2 ω yX15_begins cX15_begins 5 (some .boolean) d G (fun Sz Θz => (eZ Sz (q2 ω Θz Q))) 56 [(2, l0), (0, l1), (2, l2), (0, l3), (0, l4)] [] g Θ)
def W2_X15_begins_58 (ω : AO) (d G : Nat) (l0 l1 l2 l3 s0 : Int) (g : Nat) (Θ : Th) (Q : Int → Th → Prop) : Prop := Hid (SJ2 ω yX15_begins cX15_begins 5 (some .boolean) d G (fun Sz Θz => (eZ Sz (q2 ω Θz Q))) 58 [(2, l0), (0, l1), (2, l2), (0, l3), vN] [(0, s0)] g Θ)
set_option maxHeartbeats 4000000 in
theorem s2_X15_begins {ω : AO} {d G : Nat} {l0 l1 l2 : Int} {Θ : Th} {Q : Int → Th → Prop} (hB : (1 ≤ d) ∧ (kd Θ l2 = 2) ∧ (2 ≤ d) ∧ ∀ (x2 : Int) (e2 : x2 = len (vv Θ l2)) (r2 : -2147483648 ≤ x2 ∧ x2 < 2147483648), (kd Θ l0 = 2) ∧ ∀ (x7 : Int) (e7 : x7 = len (vv Θ l0)) (r7 : -2147483648 ≤ x7 ∧ x7 < 2147483648), (-2147483648 ≤ (l1 + x2) ∧ (l1 + x2) < 2147483648) ∧ (∀ (c10 : (l1 + x2) ≤ x7), W2_X15_begins_17 ω d G l0 l1 l2 0 (0) Θ Q) ∧ (∀ (c10 : x7 < (l1 + x2)), Q 0 Θ)) : w2_X15_begins ω d G l0 l1 l2 Θ Q := sorry
set_option maxHeartbeats 4000000 in
theorem s2_X15_begins_17 {ω : AO} {d G : Nat} {l0 l1 l2 l3 : Int} {g : Nat} {Θ : Th} {Q : Int → Th → Prop} (hB : (1 ≤ d) ∧ (kd Θ l2 = 2) ∧ (2 ≤ d) ∧ (g ≤ G) ∧ ∀ (x19 : Int) (e19 : x19 = len (vv Θ l2)) (r19 : -2147483648 ≤ x19 ∧ x19 < 2147483648), (-2147483648 ≤ l3 ∧ l3 < 2147483648) ∧ (∀ (c22 : x19 ≤ l3), Q 1 Θ) ∧ (∀ (c22 : l3 < x19), (kd Θ l0 = 2) ∧ (0 ≤ (l1 + l3) ∧ (l1 + l3) < len (vv Θ l0)) ∧ (5 ≤ d) ∧ ∀ (x29 : Int) (e29 : x29 = gt (vv Θ l0) (l1 + l3)) (r29 : 0 ≤ x29 ∧ x29 < 65536), (∀ (c38 : x29 < 65), W2_X15_begins_56 ω d G l0 l1 l2 l3 x29 (g) Θ Q) ∧ (∀ (c38 : 65 ≤ x29), (∀ (c45 : 90 < x29), W2_X15_begins_56 ω d G l0 l1 l2 l3 x29 (g) Θ Q) ∧ (∀ (c45 : x29 ≤ 90), W2_X15_begins_58 ω d G l0 l1 l2 l3 ((x29 + 32)) (g) Θ Q)))) : W2_X15_begins_17 ω d G l0 l1 l2 l3 g Θ Q := sorry
set_option maxHeartbeats 4000000 in
theorem s2_X15_begins_56 {ω : AO} {d G : Nat} {l0 l1 l2 l3 l4 : Int} {g : Nat} {Θ : Th} {Q : Int → Th → Prop} (hB : W2_X15_begins_58 ω d G l0 l1 l2 l3 l4 (g) Θ Q) : W2_X15_begins_56 ω d G l0 l1 l2 l3 l4 g Θ Q := sorry
set_option maxHeartbeats 4000000 in
theorem s2_X15_begins_58 {ω : AO} {d G : Nat} {l0 l1 l2 l3 s0 : Int} {g : Nat} {Θ : Th} {Q : Int → Th → Prop} (hB : (1 ≤ d) ∧ (kd Θ l2 = 2) ∧ (0 ≤ l3 ∧ l3 < len (vv Θ l2)) ∧ (5 ≤ d) ∧ (g ≤ G) ∧ ∀ (x60 : Int) (e60 : x60 = gt (vv Θ l2) l3) (r60 : 0 ≤ x60 ∧ x60 < 65536), (-2147483648 ≤ s0 ∧ s0 < 2147483648) ∧ (∀ (c63 : s0 = x60), W2_X15_begins_17 ω d G l0 l1 l2 ((l3 + 1)) (g) Θ Q) ∧ (∀ (c63 : ¬ s0 = x60), Q 0 Θ)) : W2_X15_begins_58 ω d G l0 l1 l2 l3 s0 g Θ Q := sorry
def W2_X15_inAngles_22 (ω : AO) (d G : Nat) (l0 l1 s0 : Int) (g : Nat) (Θ : Th) (Q : Int → Th → Prop) : Prop := Hid (SJ2 ω yX15_inAngles cX15_inAngles 4 (some (.object "java/lang/String")) d G (fun Sz Θz => (eA Sz (q2 ω Θz Q))) 22 [(2, l0), (0, l1), vN, vN] [(0, s0)] g Θ)
set_option maxHeartbeats 4000000 in
theorem s2_X15_inAngles {ω : AO} {d G : Nat} {l0 : Int} {Θ : Th} {Q : Int → Th → Prop} (hB : (1 ≤ d) ∧ (kd Θ l0 = 2) ∧ (7 ≤ d) ∧ ∀ (x3 : Int) (e3 : x3 = idx (vv Θ l0) (60 : Int) 0) (r3 : -2147483648 ≤ x3 ∧ x3 < 2147483648), (∀ (c8 : 0 ≤ x3), (6 ≤ d) ∧ ∀ (x19 : Int) (e19 : x19 = idx (vv Θ l0) (62 : Int) x3) (r19 : -2147483648 ≤ x19 ∧ x19 < 2147483648), W2_X15_inAngles_22 ω d G l0 x3 x19 (0) Θ Q) ∧ (∀ (c8 : x3 < 0), W2_X15_inAngles_22 ω d G l0 x3 ((-1)) (0) Θ Q)) : w2_X15_inAngles ω d G l0 Θ Q := sorry
set_option maxHeartbeats 4000000 in
theorem s2_X15_inAngles_22 {ω : AO} {d G : Nat} {l0 l1 s0 : Int} {g : Nat} {Θ : Th} {Q : Int → Th → Prop} (hB : (-2147483648 ≤ s0 ∧ s0 < 2147483648) ∧ (∀ (c24 : 0 ≤ s0), (1 ≤ d) ∧ (kd Θ l0 = 2) ∧ (0 ≤ (l1 + 1) ∧ (l1 + 1) ≤ s0 ∧ s0 ≤ len (vv Θ l0)) ∧ ((l1 + 1) < s0 ∨ wide (vv Θ l0) = 0 ∨ vv Θ l0 = []) ∧ (7 ≤ d) ∧ (g + (s0 - (l1 + 1) + 5).toNat ≤ G) ∧ ∀ (x35 : Int) (Θ35 : Th) (e35 : NewS Θ Θ35 x35 (sub (vv Θ l0) (l1 + 1) s0)), (2 ≤ d) ∧ ∀ (x40 : Int) (e40 : x40 = len (vv Θ35 x35)) (r40 : -2147483648 ≤ x40 ∧ x40 < 2147483648), (∀ (c45 : 40 < x40), ∀ (v61 : Int) (h61 : Str Θ35 v61 []), Q v61 Θ35) ∧ (∀ (c45 : x40 ≤ 40), ∀ (x51 : Int) (e51 : x51 = idx (vv Θ35 x35) (32 : Int) 0) (r51 : -2147483648 ≤ x51 ∧ x51 < 2147483648), (∀ (c54 : 0 ≤ x51), ∀ (v61 : Int) (h61 : Str Θ35 v61 []), Q v61 Θ35) ∧ (∀ (c54 : x51 < 0), Q x35 Θ35))) ∧ (∀ (c24 : s0 < 0), ∀ (v27 : Int) (h27 : Str Θ v27 []), (g ≤ G) ∧ Q v27 Θ)) : W2_X15_inAngles_22 ω d G l0 l1 s0 g Θ Q := sorry
set_option maxHeartbeats 4000000 in
theorem s2_X18_init {ω : AO} {d G : Nat} {l0 l1 l2 : Int} {Θ : Th} {Q : Th → Prop} (hB : (1 ≤ d) ∧ (0 ≤ l0) ∧ (kd Θ l0 = 31) ∧ (¬ fz Θ l0) ∧ (-1 ≤ l1) ∧ ∀ (Θ6 : Th) (t6 : Θ6 = pf Θ l0 0 l1), (¬ fz Θ6 l0) ∧ (-2147483648 ≤ l2 ∧ l2 < 2147483648) ∧ ∀ (Θ11 : Th) (t11 : Θ11 = pf Θ6 l0 1 l2), Q Θ11) : w2_X18_init ω d G l0 l1 l2 Θ Q := sorry
set_option maxHeartbeats 4000000 in
theorem s2_X18_file {ω : AO} {d G : Nat} {l0 : Int} {Θ : Th} {Q : Int → Th → Prop} (hB : (kd Θ l0 = 31) ∧ ∀ (v1 : Int) (e1 : v1 = gt (vv Θ l0) 0) (r1 : -1 ≤ v1), Q v1 Θ) : w2_X18_file ω d G l0 Θ Q := sorry
set_option maxHeartbeats 4000000 in
theorem s2_X18_message {ω : AO} {d G : Nat} {l0 : Int} {Θ : Th} {Q : Int → Th → Prop} (hB : (kd Θ l0 = 31) ∧ ∀ (v1 : Int) (e1 : v1 = gt (vv Θ l0) 1) (r1 : -2147483648 ≤ v1 ∧ v1 < 2147483648), Q v1 Θ) : w2_X18_message ω d G l0 Θ Q := sorry
set_option maxHeartbeats 4000000 in
theorem s2_X13_init {ω : AO} {d G : Nat} {l0 l1 : Int} {Θ : Th} {Q : Th → Prop} (hB : (1 ≤ d) ∧ (0 ≤ l0) ∧ (kd Θ l0 = 26) ∧ (¬ fz Θ l0) ∧ (-1 ≤ l1) ∧ ∀ (Θ6 : Th) (t6 : Θ6 = pf Θ l0 0 l1), (0 + 1 ≤ G) ∧ ∀ (v10 : Int) (Θ10 : Th) (u10 : nt Θ6 ≤ v10 ∧ 0 ≤ v10) (b10 : Bl Θ6) (t10 : Θ10 = nu Θ6 v10 (27, [0, 0], 0, 0)), ∃ G15 : Nat, (0 + 1 + G15 ≤ G) ∧ w2_X14_init ω (d - 1) G15 v10 l1 Θ10 (fun Θ15 => ∀ (L15 : Le Θ10 Θ15), (¬ fz Θ15 l0) ∧ ∀ (Θ18 : Th) (t18 : Θ18 = pf Θ15 l0 1 v10), (0 + 1 + G15 ≤ G) ∧ Q Θ18)) : w2_X13_init ω d G l0 l1 Θ Q := sorry
def W2_X1_isQuoted_2 (ω : AO) (d G : Nat) (l0 l1 l2 : Int) (g : Nat) (Θ : Th) (Q : Int → Th → Prop) : Prop := Hid (SJ2 ω yX1_isQuoted cX1_isQuoted 3 (some .boolean) d G (fun Sz Θz => (eZ Sz (q2 ω Θz Q))) 2 [(2, l0), (0, l1), (0, l2)] [] g Θ)
def W2_X1_isQuoted_26 (ω : AO) (d G : Nat) (l0 l1 l2 : Int) (g : Nat) (Θ : Th) (Q : Int → Th → Prop) : Prop := Hid (SJ2 ω yX1_isQuoted cX1_isQuoted 3 (some .boolean) d G (fun Sz Θz => (eZ Sz (q2 ω Θz Q))) 26 [(2, l0), (0, l1), (0, l2)] [] g Θ)
set_option maxHeartbeats 4000000 in
theorem s2_X1_isQuoted {ω : AO} {d G : Nat} {l0 l1 : Int} {Θ : Th} {Q : Int → Th → Prop} (hB : W2_X1_isQuoted_2 ω d G l0 l1 l1 (0) Θ Q) : w2_X1_isQuoted ω d G l0 l1 Θ Q := sorry
set_option maxHeartbeats 4000000 in
theorem s2_X1_isQuoted_2 {ω : AO} {d G : Nat} {l0 l1 l2 : Int} {g : Nat} {Θ : Th} {Q : Int → Th → Prop} (hB : (1 ≤ d) ∧ (kd Θ l0 = 2) ∧ (2 ≤ d) ∧ (g ≤ G) ∧ ∀ (x4 : Int) (e4 : x4 = len (vv Θ l0)) (r4 : -2147483648 ≤ x4 ∧ x4 < 2147483648), (-2147483648 ≤ l2 ∧ l2 < 2147483648) ∧ (∀ (c7 : x4 ≤ l2), W2_X1_isQuoted_26 ω d G l0 l1 l2 (g) Θ Q) ∧ (∀ (c7 : l2 < x4), (0 ≤ l2 ∧ l2 < len (vv Θ l0)) ∧ (5 ≤ d) ∧ ∀ (x12 : Int) (e12 : x12 = gt (vv Θ l0) l2) (r12 : 0 ≤ x12 ∧ x12 < 65536), (∀ (c17 : ¬ x12 = 62), W2_X1_isQuoted_26 ω d G l0 l1 l2 (g) Θ Q) ∧ (∀ (c17 : x12 = 62), W2_X1_isQuoted_2 ω d G l0 l1 ((l2 + 1)) (g) Θ Q))) : W2_X1_isQuoted_2 ω d G l0 l1 l2 g Θ Q := sorry
set_option maxHeartbeats 4000000 in
theorem s2_X1_isQuoted_26 {ω : AO} {d G : Nat} {l0 l1 l2 : Int} {g : Nat} {Θ : Th} {Q : Int → Th → Prop} (hB : (-2147483648 ≤ l2 ∧ l2 < 2147483648) ∧ (-2147483648 ≤ l1 ∧ l1 < 2147483648) ∧ (∀ (c28 : l2 ≤ l1), (g ≤ G) ∧ Q 0 Θ) ∧ (∀ (c28 : l1 < l2), ∀ (v32 : Int) (h32 : Str Θ v32 [70, 114, 111, 109, 32]), (1 ≤ d) ∧ (kd Θ l0 = 2) ∧ ∃ G35 : Nat, (g + G35 ≤ G) ∧ w2_J2_startsWith ω (d - 1) G35 l0 v32 l2 Θ (fun x35 Θ35 => ∀ (L35 : Le Θ Θ35) (r35 : x35 = 0 ∨ x35 = 1), (∀ (c38 : x35 = 0), (g + G35 ≤ G) ∧ Q 0 Θ35) ∧ (∀ (c38 : ¬ x35 = 0), (g + G35 ≤ G) ∧ Q 1 Θ35)))) : W2_X1_isQuoted_26 ω d G l0 l1 l2 g Θ Q := sorry
def W2_X1_close_14 (ω : AO) (d G : Nat) (l0 l1 : Int) (g : Nat) (Θ : Th) (Q : Th → Prop) : Prop := Hid (SJ2 ω yX1_close cX1_close 3 none d G (fun Sz Θz => (eU Sz (q2U ω Θz Q))) 14 [(2, l0), (2, l1), vN] [] g Θ)
set_option maxHeartbeats 4000000 in
theorem s2_X1_close {ω : AO} {d G : Nat} {l0 l1 l2 : Int} {Θ : Th} {Q : Th → Prop} (hB : (∀ (c1 : 0 ≤ l1), (-2147483648 ≤ l2 ∧ l2 < 2147483648) ∧ (∀ (c6 : l2 < 0), W2_X1_close_14 ω d G l0 l1 (0) Θ Q) ∧ (∀ (c6 : 0 ≤ l2), (1 ≤ d) ∧ (kd Θ l1 = 1) ∧ (¬ fz Θ l1) ∧ (0 ≤ l2 ∧ l2 ≤ len (vv Θ l1)) ∧ (6 ≤ d) ∧ ∀ (Θ11 : Th) (t11 : Θ11 = uq Θ l1 (1, (vv Θ l1).take (l2).toNat, cp Θ l1, cx Θ l1)), W2_X1_close_14 ω d G l0 l1 (0) Θ11 Q)) ∧ (∀ (c1 : l1 < 0), Q Θ)) : w2_X1_close ω d G l0 l1 l2 Θ Q := sorry
set_option maxHeartbeats 4000000 in
theorem s2_X1_close_14 {ω : AO} {d G : Nat} {l0 l1 : Int} {g : Nat} {Θ : Th} {Q : Th → Prop} (hB : (g + 1 ≤ G) ∧ ∀ (v15 : Int) (Θ15 : Th) (u15 : nt Θ ≤ v15 ∧ 0 ≤ v15) (b15 : Bl Θ) (t15 : Θ15 = nu Θ v15 (28, [-1, -1], 0, 0)), (1 ≤ d) ∧ (kd Θ15 l1 = 1) ∧ (len (vv Θ15 l1) ≤ 15000000) ∧ (8 ≤ d) ∧ (g + 1 + (len (vv Θ15 l1) + 5).toNat ≤ G) ∧ ∀ (x20 : Int) (Θ20 : Th) (e20 : NewS Θ15 Θ20 x20 (vv Θ15 l1)) (n20 : nt Θ15 ≤ x20), ∃ G23 : Nat, (g + 1 + (len (vv Θ15 l1) + 5).toNat + G23 ≤ G) ∧ w2_X15_init ω (d - 1) G23 v15 x20 Θ20 (fun Θ23 => ∀ (L23 : Le Θ20 Θ23), (kd Θ23 l0 = 3) ∧ (¬ fz Θ23 l0) ∧ (rf Θ23 v15) ∧ (adC (cp Θ23 l0) (len (vv Θ23 l0)) ≤ 60000000) ∧ (7 ≤ d) ∧ (g + 1 + (len (vv Θ15 l1) + 5).toNat + G23 + (adC (cp Θ23 l0) (len (vv Θ23 l0)) - cp Θ23 l0).toNat ≤ G) ∧ ∀ (k26 : Int) (Θ26 : Th) (t26 : Θ26 = uq Θ23 l0 (3, vv Θ23 l0 ++ [v15], adC (cp Θ23 l0) (len (vv Θ23 l0)), k26)), Q Θ26)) : W2_X1_close_14 ω d G l0 l1 g Θ Q := sorry
def W2_X1_messagesIn_18 (ω : AO) (d G : Nat) (l0 l1 l2 l3 l4 l5 : Int) (g : Nat) (Θ : Th) (Q : Int → Th → Prop) : Prop := Hid (SJ2 ω yX1_messagesIn cX1_messagesIn 8 (some (.object "java/util/ArrayList")) d G (fun Sz Θz => (eA Sz (q2 ω Θz Q))) 18 [(2, l0), (2, l1), (2, l2), (0, l3), (0, l4), (0, l5), vN, vN] [] g Θ)
def W2_X1_messagesIn_53 (ω : AO) (d G : Nat) (l0 l1 l2 l3 l4 l5 l6 s0 : Int) (g : Nat) (Θ : Th) (Q : Int → Th → Prop) : Prop := Hid (SJ2 ω yX1_messagesIn cX1_messagesIn 8 (some (.object "java/util/ArrayList")) d G (fun Sz Θz => (eA Sz (q2 ω Θz Q))) 53 [(2, l0), (2, l1), (2, l2), (0, l3), (0, l4), (0, l5), (0, l6), vN] [(0, s0)] g Θ)
def W2_X1_messagesIn_91 (ω : AO) (d G : Nat) (l0 l1 l2 l4 l5 l6 l7 : Int) (g : Nat) (Θ : Th) (Q : Int → Th → Prop) : Prop := Hid (SJ2 ω yX1_messagesIn cX1_messagesIn 8 (some (.object "java/util/ArrayList")) d G (fun Sz Θz => (eA Sz (q2 ω Θz Q))) 91 [(2, l0), (2, l1), (2, l2), vN, (0, l4), (0, l5), (0, l6), (0, l7)] [] g Θ)
def W2_X1_messagesIn_138 (ω : AO) (d G : Nat) (l0 l1 l2 l4 l5 l6 l7 : Int) (g : Nat) (Θ : Th) (Q : Int → Th → Prop) : Prop := Hid (SJ2 ω yX1_messagesIn cX1_messagesIn 8 (some (.object "java/util/ArrayList")) d G (fun Sz Θz => (eA Sz (q2 ω Θz Q))) 138 [(2, l0), (2, l1), (2, l2), vN, (0, l4), (0, l5), (0, l6), (0, l7)] [] g Θ)
def W2_X1_messagesIn_110 (ω : AO) (d G : Nat) (l0 l1 l2 l5 l6 l7 s0 : Int) (g : Nat) (Θ : Th) (Q : Int → Th → Prop) : Prop := Hid (SJ2 ω yX1_messagesIn cX1_messagesIn 8 (some (.object "java/util/ArrayList")) d G (fun Sz Θz => (eA Sz (q2 ω Θz Q))) 110 [(2, l0), (2, l1), (2, l2), vN, vN, (0, l5), (0, l6), (0, l7)] [(0, s0)] g Θ)
def W2_X1_messagesIn_150 (ω : AO) (d G : Nat) (l0 l1 l2 l4 l7 s0 : Int) (g : Nat) (Θ : Th) (Q : Int → Th → Prop) : Prop := Hid (SJ2 ω yX1_messagesIn cX1_messagesIn 8 (some (.object "java/util/ArrayList")) d G (fun Sz Θz => (eA Sz (q2 ω Θz Q))) 150 [(2, l0), (2, l1), (2, l2), vN, (0, l4), vN, vN, (0, l7)] [(0, s0)] g Θ)
def W2_X1_messagesIn_132 (ω : AO) (d G : Nat) (l0 l1 l2 l4 l5 l6 l7 s0 s1 s2 : Int) (g : Nat) (Θ : Th) (Q : Int → Th → Prop) : Prop := Hid (SJ2 ω yX1_messagesIn cX1_messagesIn 8 (some (.object "java/util/ArrayList")) d G (fun Sz Θz => (eA Sz (q2 ω Θz Q))) 132 [(2, l0), (2, l1), (2, l2), vN, (0, l4), (0, l5), (0, l6), (0, l7)] [(0, s0), (2, s1), (2, s2)] g Θ)
set_option maxHeartbeats 4000000 in
theorem s2_X1_messagesIn {ω : AO} {d G : Nat} {l0 : Int} {Θ : Th} {Q : Int → Th → Prop} (hB : (0 + 1 ≤ G) ∧ ∀ (v0 : Int) (Θ0 : Th) (u0 : nt Θ ≤ v0 ∧ 0 ≤ v0) (b0 : Bl Θ) (t0 : Θ0 = nu Θ v0 (203, [], 0, 0)), (1 ≤ d) ∧ (4 ≤ d) ∧ ∀ (k4 : Int) (Θ4 : Th) (t4 : Θ4 = uq Θ0 v0 (3, [], 0, k4)), W2_X1_messagesIn_18 ω d G l0 v0 ((-1)) 1 ((-1)) 0 (0 + 1) Θ4 Q) : w2_X1_messagesIn ω d G l0 Θ Q := sorry
set_option maxHeartbeats 4000000 in
theorem s2_X1_messagesIn_18 {ω : AO} {d G : Nat} {l0 l1 l2 l3 l4 l5 : Int} {g : Nat} {Θ : Th} {Q : Int → Th → Prop} (hB : (1 ≤ d) ∧ (kd Θ l0 = 2) ∧ (2 ≤ d) ∧ (g ≤ G) ∧ ∀ (x21 : Int) (e21 : x21 = len (vv Θ l0)) (r21 : -2147483648 ≤ x21 ∧ x21 < 2147483648), (-2147483648 ≤ l5 ∧ l5 < 2147483648) ∧ (∀ (c24 : x21 ≤ l5), ∃ G162 : Nat, (g + G162 ≤ G) ∧ w2_X1_close ω (d - 1) G162 l1 l2 l4 Θ (fun Θ162 => ∀ (L162 : Le Θ Θ162), (g + G162 ≤ G) ∧ (-1 ≤ l1) ∧ Q l1 Θ162)) ∧ (∀ (c24 : l5 < x21), (6 ≤ d) ∧ ∀ (x32 : Int) (e32 : x32 = idx (vv Θ l0) (10 : Int) l5) (r32 : -2147483648 ≤ x32 ∧ x32 < 2147483648), (∀ (c39 : 0 ≤ x32), W2_X1_messagesIn_53 ω d G l0 l1 l2 l3 l4 l5 x32 ((x32 + 1)) (g) Θ Q) ∧ (∀ (c39 : x32 < 0), ∀ (x43 : Int) (e43 : x43 = len (vv Θ l0)) (r43 : -2147483648 ≤ x43 ∧ x43 < 2147483648), W2_X1_messagesIn_53 ω d G l0 l1 l2 l3 l4 l5 x32 x43 (g) Θ Q))) : W2_X1_messagesIn_18 ω d G l0 l1 l2 l3 l4 l5 g Θ Q := sorry
set_option maxHeartbeats 4000000 in
theorem s2_X1_messagesIn_53 {ω : AO} {d G : Nat} {l0 l1 l2 l3 l4 l5 l6 s0 : Int} {g : Nat} {Θ : Th} {Q : Int → Th → Prop} (hB : (-2147483648 ≤ l3 ∧ l3 < 2147483648) ∧ (∀ (c56 : l3 = 0), W2_X1_messagesIn_91 ω d G l0 l1 l2 l4 l5 l6 s0 (g) Θ Q) ∧ (∀ (c56 : ¬ l3 = 0), ∀ (v60 : Int) (h60 : Str Θ v60 [70, 114, 111, 109, 32]), (1 ≤ d) ∧ (kd Θ l0 = 2) ∧ ∃ G64 : Nat, (g + G64 ≤ G) ∧ w2_J2_startsWith ω (d - 1) G64 l0 v60 l5 Θ (fun x64 Θ64 => ∀ (L64 : Le Θ Θ64) (r64 : x64 = 0 ∨ x64 = 1), (∀ (c67 : x64 = 0), W2_X1_messagesIn_91 ω d G l0 l1 l2 l4 l5 l6 s0 (g + G64) Θ64 Q) ∧ (∀ (c67 : ¬ x64 = 0), ∃ G74 : Nat, (g + G64 + G74 ≤ G) ∧ w2_X1_close ω (d - 1) G74 l1 l2 l4 Θ64 (fun Θ74 => ∀ (L74 : Le Θ64 Θ74), (g + G64 + G74 + 1 ≤ G) ∧ ∀ (v77 : Int) (Θ77 : Th) (u77 : nt Θ74 ≤ v77 ∧ 0 ≤ v77) (b77 : Bl Θ74) (t77 : Θ77 = nu Θ74 v77 (201, [], 0, 0)), (3 ≤ d) ∧ (g + G64 + G74 + 1 + 5 ≤ G) ∧ ∀ (Θ81 : Th) (t81 : Θ81 = uq Θ77 v77 (1, [], 16, 0)), W2_X1_messagesIn_138 ω d G l0 l1 v77 ((-1)) l5 l6 s0 (g + G64 + G74 + 1 + 5) Θ81 Q))))) : W2_X1_messagesIn_53 ω d G l0 l1 l2 l3 l4 l5 l6 s0 g Θ Q := sorry
set_option maxHeartbeats 4000000 in
theorem s2_X1_messagesIn_91 {ω : AO} {d G : Nat} {l0 l1 l2 l4 l5 l6 l7 : Int} {g : Nat} {Θ : Th} {Q : Int → Th → Prop} (hB : (∀ (c92 : l2 < 0), W2_X1_messagesIn_138 ω d G l0 l1 l2 l4 l5 l6 l7 (g) Θ Q) ∧ (∀ (c92 : 0 ≤ l2), (-2147483648 ≤ l6 ∧ l6 < 2147483648) ∧ (-2147483648 ≤ l5 ∧ l5 < 2147483648) ∧ (∀ (c99 : ¬ l6 = l5), W2_X1_messagesIn_110 ω d G l0 l1 l2 l5 l6 l7 ((-1)) (g) Θ Q) ∧ (∀ (c99 : l6 = l5), (1 ≤ d) ∧ (kd Θ l2 = 1) ∧ (2 ≤ d) ∧ (g ≤ G) ∧ ∀ (x103 : Int) (e103 : x103 = len (vv Θ l2)) (r103 : -2147483648 ≤ x103 ∧ x103 < 2147483648), W2_X1_messagesIn_110 ω d G l0 l1 l2 l5 l6 l7 x103 (g) Θ Q))) : W2_X1_messagesIn_91 ω d G l0 l1 l2 l4 l5 l6 l7 g Θ Q := sorry
set_option maxHeartbeats 4000000 in
theorem s2_X1_messagesIn_138 {ω : AO} {d G : Nat} {l0 l1 l2 l4 l5 l6 l7 : Int} {g : Nat} {Θ : Th} {Q : Int → Th → Prop} (hB : (-2147483648 ≤ l6 ∧ l6 < 2147483648) ∧ (-2147483648 ≤ l5 ∧ l5 < 2147483648) ∧ (∀ (c142 : ¬ l6 = l5), W2_X1_messagesIn_150 ω d G l0 l1 l2 l4 l7 0 (g) Θ Q) ∧ (∀ (c142 : l6 = l5), W2_X1_messagesIn_150 ω d G l0 l1 l2 l4 l7 1 (g) Θ Q)) : W2_X1_messagesIn_138 ω d G l0 l1 l2 l4 l5 l6 l7 g Θ Q := sorry
set_option maxHeartbeats 4000000 in
theorem s2_X1_messagesIn_110 {ω : AO} {d G : Nat} {l0 l1 l2 l5 l6 l7 s0 : Int} {g : Nat} {Θ : Th} {Q : Int → Th → Prop} (hB : (1 ≤ d) ∧ ∃ G117 : Nat, (g + G117 ≤ G) ∧ w2_X1_isQuoted ω (d - 1) G117 l0 l5 Θ (fun x117 Θ117 => ∀ (L117 : Le Θ Θ117) (r117 : x117 = 0 ∨ x117 = 1), (∀ (c120 : x117 = 0), W2_X1_messagesIn_132 ω d G l0 l1 l2 s0 l5 l6 l7 l5 l0 l2 (g + G117) Θ117 Q) ∧ (∀ (c120 : ¬ x117 = 0), W2_X1_messagesIn_132 ω d G l0 l1 l2 s0 l5 l6 l7 ((l5 + 1)) l0 l2 (g + G117) Θ117 Q))) : W2_X1_messagesIn_110 ω d G l0 l1 l2 l5 l6 l7 s0 g Θ Q := sorry
set_option maxHeartbeats 4000000 in
theorem s2_X1_messagesIn_150 {ω : AO} {d G : Nat} {l0 l1 l2 l4 l7 s0 : Int} {g : Nat} {Θ : Th} {Q : Int → Th → Prop} (hB : W2_X1_messagesIn_18 ω d G l0 l1 l2 s0 l4 l7 (g) Θ Q) : W2_X1_messagesIn_150 ω d G l0 l1 l2 l4 l7 s0 g Θ Q := sorry
set_option maxHeartbeats 4000000 in
theorem s2_X1_messagesIn_132 {ω : AO} {d G : Nat} {l0 l1 l2 l4 l5 l6 l7 s0 s1 s2 : Int} {g : Nat} {Θ : Th} {Q : Int → Th → Prop} (hB : (1 ≤ d) ∧ (kd Θ s2 = 1) ∧ ∃ G134 : Nat, (g + G134 ≤ G) ∧ w2_J1_append_4 ω (d - 1) G134 s2 s1 s0 l7 Θ (fun x134 Θ134 => ∀ (L134 : Le Θ Θ134) (r134 : -1 ≤ x134), W2_X1_messagesIn_138 ω d G l0 l1 l2 l4 l5 l6 l7 (g + G134) Θ134 Q)) : W2_X1_messagesIn_132 ω d G l0 l1 l2 l4 l5 l6 l7 s0 s1 s2 g Θ Q := sorry
set_option maxHeartbeats 4000000 in
theorem s2_X13_messages {ω : AO} {d G : Nat} {l0 : Int} {Θ : Th} {Q : Int → Th → Prop} (hB : (kd Θ l0 = 26) ∧ ∀ (v1 : Int) (e1 : v1 = gt (vv Θ l0) 1) (r1 : -1 ≤ v1), (kd Θ v1 = 27) ∧ ∀ (v4 : Int) (e4 : v4 = gt (vv Θ v1) 0) (r4 : -2147483648 ≤ v4 ∧ v4 < 2147483648), (∀ (c8 : ¬ v4 = 2), (0 + 1 ≤ G) ∧ ∀ (v19 : Int) (Θ19 : Th) (u19 : nt Θ ≤ v19 ∧ 0 ≤ v19) (b19 : Bl Θ) (t19 : Θ19 = nu Θ v19 (203, [], 0, 0)), (1 ≤ d) ∧ (4 ≤ d) ∧ ∀ (k23 : Int) (Θ23 : Th) (t23 : Θ23 = uq Θ19 v19 (3, [], 0, k23)), (0 + 1 + 1 ≤ G) ∧ ∀ (v28 : Int) (Θ28 : Th) (u28 : nt Θ23 ≤ v28 ∧ 0 ≤ v28) (b28 : Bl Θ23) (t28 : Θ28 = nu Θ23 v28 (28, [-1, -1], 0, 0)), ∀ (v33 : Int) (e33 : v33 = gt (vv Θ28 l0) 2) (r33 : -1 ≤ v33), ∃ G36 : Nat, (0 + 1 + 1 + G36 ≤ G) ∧ w2_X15_init ω (d - 1) G36 v28 v33 Θ28 (fun Θ36 => ∀ (L36 : Le Θ28 Θ36), (¬ fz Θ36 v19) ∧ (rf Θ36 v28) ∧ (adC (cp Θ36 v19) (len (vv Θ36 v19)) ≤ 60000000) ∧ (7 ≤ d) ∧ (0 + 1 + 1 + G36 + (adC (cp Θ36 v19) (len (vv Θ36 v19)) - cp Θ36 v19).toNat ≤ G) ∧ ∀ (k39 : Int) (Θ39 : Th) (t39 : Θ39 = uq Θ36 v19 (3, vv Θ36 v19 ++ [v28], adC (cp Θ36 v19) (len (vv Θ36 v19)), k39)), Q v19 Θ39)) ∧ (∀ (c8 : v4 = 2), ∀ (v12 : Int) (e12 : v12 = gt (vv Θ l0) 2) (r12 : -1 ≤ v12), (1 ≤ d) ∧ ∃ G15 : Nat, (0 + G15 ≤ G) ∧ w2_X1_messagesIn ω (d - 1) G15 v12 Θ (fun x15 Θ15 => ∀ (L15 : Le Θ Θ15) (r15 : -1 ≤ x15), (0 + G15 ≤ G) ∧ (-1 ≤ x15) ∧ Q x15 Θ15))) : w2_X13_messages ω d G l0 Θ Q := sorry
set_option maxHeartbeats 4000000 in
theorem s2_X13_isChanged {ω : AO} {d G : Nat} {l0 : Int} {Θ : Th} {Q : Int → Th → Prop} (hB : (kd Θ l0 = 26) ∧ ∀ (v1 : Int) (e1 : v1 = gt (vv Θ l0) 3) (r1 : -2147483648 ≤ v1 ∧ v1 < 2147483648), ∀ (v5 : Int) (e5 : v5 = gt (vv Θ l0) 5) (r5 : -2147483648 ≤ v5 ∧ v5 < 2147483648), (∀ (c8 : ¬ v1 = v5), Q 1 Θ) ∧ (∀ (c8 : v1 = v5), ∀ (v12 : Int) (e12 : v12 = gt (vv Θ l0) 2) (r12 : -1 ≤ v12), ∀ (v16 : Int) (e16 : v16 = gt (vv Θ l0) 4) (r16 : -1 ≤ v16), (1 ≤ d) ∧ (kd Θ v12 = 2) ∧ (kd Θ v16 = 2) ∧ (2 ≤ d) ∧ ∀ (x19 : Int) (e19 : x19 = if vv Θ v12 = vv Θ v16 then 1 else 0) (r19 : x19 = 0 ∨ x19 = 1), (∀ (c22 : ¬ x19 = 0), Q 0 Θ) ∧ (∀ (c22 : x19 = 0), Q 1 Θ))) : w2_X13_isChanged ω d G l0 Θ Q := sorry
/-! 73.ab.lean.txt -/
/-! labels of names; messages: keys -/
set_option maxRecDepth 100000
/-- a capital as a small letter -/
def lwA (c : Int) : Int := if 65 ≤ c ∧ c ≤ 90 then c + 32 else c
def bgR (l m : List Int) (k : Int) : Bool := match m with
  | [] => true
  | x :: r => decide (lwA (gt l k) = x) && bgR l r (k + 1)
/-- whether small letters begin at a place, as they may be written -/
def bgM (l m : List Int) (k : Int) : Bool := decide (k + len m ≤ len l) && bgR l m k
def MSID : List Int := [109, 101, 115, 115, 97, 103, 101, 45, 105, 100, 58]
def iaS (l : List Int) : List Int := sub l (idx l 60 0 + 1) (idx l 62 (idx l 60 0))
/-- what stands in angles -/
def iaF (l : List Int) : List Int := if (0 ≤ idx l 60 0 ∧ 0 ≤ idx l 62 (idx l 60 0)) ∧ (len (iaS l) ≤ 40 ∧ idx (iaS l) 32 0 < 0) then iaS l else []
/-- the key of a message -/
def keL (l : List Int) (k : Int) : List Int :=
  if h : 0 ≤ k ∧ k < len l ∧ gt l k ≠ 10 then
    if bgM l MSID k = true then iaF (sub l k (lnE l k)) else keL l (max k (lnE l k) + 1)
  else []
termination_by (len l - k).toNat
def keF (l : List Int) : List Int := keL l 0
theorem wide_sub {l : List Int} {i n : Int} (h : wide l = 0) : wide (sub l i n) = 0 := sorry
/-- a message -/
def MsO (Θ : Th) (r : Int) (l : List Int) : Prop := ∃ k b, Fx Θ r (28, [k, b], 0, 0) ∧ Str Θ k (keF l) ∧ Str Θ b l
theorem MsO.le {Θ Θ1 : Th} {r : Int} {l : List Int} (h : MsO Θ r l) (L : Le Θ Θ1) : MsO Θ1 r l := sorry
/-- the first place of a piece -/
def pxF (l m : List Int) (k : Int) : Int := if h : 0 ≤ k ∧ k < len l then (if pAtB l m k = true then k else pxF l m (k + 1)) else -1
termination_by (len l - k).toNat
theorem pxF_is {l m : List Int} {r : Int} (h : IsPix l m r) (hm : 0 < len m) : ∀ (N : Nat) (k : Int), (len l - k).toNat = N → 0 ≤ k → (∀ j, 0 ≤ j → j < k → ¬ pAt l m j) → r = pxF l m k := sorry
def C2 : List Int := [58, 50, 44]
def flG (l : List Int) (k b : Int) : Int := if h : 0 ≤ k ∧ k < len l then flG l (k + 1) (if 65 ≤ gt l k ∧ gt l k ≤ 90 then orI b (shlI 1 (gt l k - 65)) else b) else b
termination_by (len l - k).toNat
/-- the flags of a file's name -/
def flF (l : List Int) : Int := flG l (if 0 ≤ pxF l C2 0 then pxF l C2 0 + 3 else len l) 0
theorem flG_in {l : List Int} : ∀ (N : Nat) (k b : Int), (len l - k).toNat = N → inI b → inI (flG l k b) := sorry
/-- whether a directory is a name, or ends with it behind a slash -/
def dirB (l m : List Int) : Bool := decide (len m ≤ len l) && ((decide (len l = len m) || decide (gt l (len l - len m - 1) = 47)) && decide (l.drop (len l - len m).toNat = m))
def laF (l : List Int) (x : Int) : Nat → Int
  | 0 => -1
  | n + 1 => if gt l n = x then n else laF l x n
theorem laF_is {l : List Int} {x r : Int} (h : IsLast l x r) : ∀ n : Nat, (n : Int) ≤ len l → (∀ k, (n : Int) ≤ k → k < len l → gt l k ≠ x) → r = laF l x n := sorry
/-- where the last slash stands -/
def slF (l : List Int) : Int := laF l 47 l.length
def MBOX : List Int := [46, 109, 98, 111, 120]
def NEWD : List Int := [110, 101, 119]
def CURD : List Int := [99, 117, 114]
def lbD (l : List Int) : List Int := sub l 0 (slF l)
def lbN (l : List Int) : List Int := sub l (slF l + 1) (len l)
def lbI (l : List Int) : Bool := (dirB (lbD l) NEWD || dirB (lbD l) CURD) && (!(decide (lbN l = [])) && (!(decide (gt (lbN l) 0 = 46)) && !(decide (gt (lbN l) 0 = 58))))
/-- what a name says: 1 a message, 2 a box, 0 another -/
def lbS (l : List Int) : Int := if slF l < 0 then (if pAtB l MBOX (len l - 5) = true ∧ 5 < len l then 2 else 0) else if lbI l = true then 1 else 0
def lbG (l : List Int) : Int := if 0 ≤ slF l ∧ lbI l = true ∧ dirB (lbD l) NEWD = false then flF (lbN l) else 0
section MSG
variable {ω : AO} {d G : Nat} {Θ Θ1 : Th} {a t k e x y q b : Int} {l m : List Int}
theorem u_X15_begins {Q : Int → Th → Prop} (hd : 5 ≤ d) (hs : Str Θ a l) (hq : Str Θ q m) (hk : 0 ≤ k ∧ k ≤ 1000000) (hm : len m ≤ 1000) (hQ : ∀ z, z = (if bgM l m k = true then 1 else 0) → Q z Θ) : w2_X15_begins ω d G a k q Θ Q := sorry
theorem u_X15_inAngles {Q : Int → Th → Prop} (hd : 7 ≤ d) (hs : Str Θ a l) (hw : wide l = 0) (hG : len l + 5 ≤ (G : Int)) (hQ : ∀ r Θ', NewS Θ Θ' r (iaF l) → Q r Θ') : w2_X15_inAngles ω d G a Θ Q := sorry
theorem u_X15_keyOf {Q : Int → Th → Prop} (hd : 9 ≤ d) (hs : Str Θ a l) (hw : wide l = 0) (hl : len l ≤ 100000) (hG : 2 * len l + 10 ≤ (G : Int)) (hQ : ∀ r Θ', NewS Θ Θ' r (keF l) → -1 ≤ r → Q r Θ') : w2_X15_keyOf ω d G a Θ Q := sorry
theorem u_X15_init {Q : Th → Prop} (hd : 10 ≤ d) (h : xo Θ a = (28, [-1, -1], 0, 0)) (hf : ¬ fz Θ a) (hs : Str Θ b l) (hw : wide l = 0) (hl : len l ≤ 100000) (hG : 2 * len l + 10 ≤ (G : Int)) (hQ : ∀ r Θ', GrX (· = a) Θ Θ' → xo Θ' a = (28, [r, b], 0, 0) → ¬ fz Θ' a → Str Θ' r (keF l) → Q Θ') : w2_X15_init ω d G a b Θ Q := sorry
-- labels
theorem u_X14_isDir {Q : Int → Th → Prop} (hd : 5 ≤ d) (hs : Str Θ a l) (hq : Str Θ q m) (hl : len l ≤ 1000000) (hm : len m ≤ 1000000) (hQ : ∀ z, z = (if dirB l m = true then 1 else 0) → Q z Θ) : w2_X14_isDir ω d G a q Θ Q := sorry
theorem u_X14_flagsOf {Q : Int → Th → Prop} (hd : 5 ≤ d) (hs : Str Θ a l) (hw : wide l = 0) (hl : len l ≤ 1000000) (hQ : Q (flF l) Θ) : w2_X14_flagsOf ω d G a Θ Q := sorry
theorem b2i_t {z : Int} {p : Bool} (h : z = (if p = true then 1 else 0)) (hz : ¬ z = 0) : p = true := sorry
theorem b2i_f {z : Int} {p : Bool} (h : z = (if p = true then 1 else 0)) (hz : z = 0) : p = false := sorry
theorem u_X14_init {Q : Th → Prop} (hd : 9 ≤ d) (h : xo Θ a = (27, [0, 0], 0, 0)) (hf : ¬ fz Θ a) (hs : Str Θ b l) (hw : wide l = 0) (hl : len l ≤ 100000) (hG : len l + 10 ≤ (G : Int)) (hQ : ∀ Θ', GrX (· = a) Θ Θ' → xo Θ' a = (27, [lbS l, lbG l], 0, 0) → ¬ fz Θ' a → Q Θ') : w2_X14_init ω d G a b Θ Q := sorry
end MSG

/-! 73.ac.lean.txt -/
/-! messages in contents; files -/
set_option maxRecDepth 100000
def FROMS : List Int := [70, 114, 111, 109, 32]
def gtB (c : Int) : Bool := decide (c = 62)
/-- a line that begins with > and From -/
def qtB (l : List Int) (k : Int) : Bool := decide (k < scn gtB l k) && pAtB l FROMS (scn gtB l k)
/-- where the next line begins -/
def nxE (l : List Int) (k : Int) : Int := min (max k (lnE l k) + 1) (len l)
theorem nxE_gt {l : List Int} {k : Int} (h : 0 ≤ k ∧ k < len l) : k < nxE l k ∧ nxE l k ≤ len l := sorry
def clT (t : List Int) (ah : Int) : List Int := if 0 ≤ ah then t.take ah.toNat else t
def clL (now : Option (List Int)) (ah : Int) : List (List Int) := match now with
  | none => []
  | some t => [clT t ah]
def ahF (now : Option (List Int)) (e : Bool) (ah : Int) : Int := match now with
  | none => ah
  | some t => if e = true then len t else -1
def nwF (l : List Int) (k : Int) (now : Option (List Int)) : Option (List Int) := match now with
  | none => none
  | some t => some (t ++ sub l (if qtB l k = true then k + 1 else k) (nxE l k))
/-- the messages of a box, from a line on -/
def msG (l : List Int) (k : Int) (now : Option (List Int)) (be : Bool) (ah : Int) : List (List Int) :=
  if h : 0 ≤ k ∧ k < len l then
    if (be && pAtB l FROMS k) = true then clL now ah ++ msG l (nxE l k) (some []) (decide (lnE l k = k)) (-1)
    else msG l (nxE l k) (nwF l k now) (decide (lnE l k = k)) (ahF now (decide (lnE l k = k)) ah)
  else clL now ah
termination_by (len l - k).toNat
decreasing_by all_goals (have := nxE_gt h; omega)
def msF (l : List Int) : List (List Int) := msG l 0 none true (-1)
theorem FROMS_w : wide FROMS = 0 := sorry
theorem wide_app0 {l m : List Int} (h1 : wide l = 0) (h2 : wide m = 0) : wide (l ++ m) = 0 := sorry
theorem wide_take {l : List Int} {n : Nat} (h : wide l = 0) : wide (l.take n) = 0 := sorry
section MSB
variable {ω : AO} {d G : Nat} {Θ Θ1 : Th} {a s t k e x y q b w c cw ew ah : Int} {l m rs : List Int}
theorem u_X1_isQuoted {Q : Int → Th → Prop} (hd : 5 ≤ d) (hs : Str Θ a l) (hk : 0 ≤ k ∧ k ≤ len l) (hl : len l ≤ 1000000) (hQ : ∀ z, z = (if qtB l k = true then 1 else 0) → Q z Θ) : w2_X1_isQuoted ω d G a k Θ Q := sorry
theorem u_X1_close0 {Q : Th → Prop} (hQ : Q Θ) : w2_X1_close ω d G w (-1) ah Θ Q := sorry
theorem u_X1_close {Q : Th → Prop} {T : List Int} (hd : 12 ≤ d) (hb : xo Θ b = (1, m, c, 0)) (fb : ¬ fz Θ b) (hw : xo Θ w = (3, rs, cw, ew)) (fw : ¬ fz Θ w) (hah : -1 ≤ ah ∧ ah ≤ len m) (hwd : wide m = 0) (hl : len m ≤ 100000) (hc : cw ≤ adC cw (len rs) ∧ adC cw (len rs) ≤ 60000000) (hT : T = clT m ah)
    (hG : 3 * len m + 16 + (adC cw (len rs) - cw) ≤ (G : Int)) (hQ : ∀ r e' Θ', GrX (fun z => z = b ∨ z = w) Θ Θ' → xo Θ' w = (3, rs ++ [r], adC cw (len rs), e') → ¬ fz Θ' w → MsO Θ' r T → Q Θ') : w2_X1_close ω d G w b ah Θ Q := sorry
/-- the builder at hand -/
def NwO (Θ Θ1 : Th) (b : Int) (now : Option (List Int)) (c : Int) : Prop := match now with
  | none => b = -1 ∧ c = 16
  | some m => xo Θ1 b = (1, m, c, 0) ∧ ¬ fz Θ1 b ∧ kd Θ b = 0 ∧ (16 ≤ c ∧ c ≤ 16 + 2 * len m) ∧ wide m = 0 ∧ 0 ≤ b
def nwL (now : Option (List Int)) : Int := match now with
  | none => 0
  | some m => len m + 5
theorem bC_in {c m : Int} (h : 16 ≤ c) (hm : 0 ≤ m) : c ≤ bC c m ∧ bC c m ≤ max c (2 * m) := sorry
theorem from_nx (h : pAt l FROMS k) : k + 5 ≤ nxE l k := sorry
def nwC (now : Option (List Int)) : Int := match now with
  | none => 0
  | some m => 3 * len m + 16
def nwG (now : Option (List Int)) (cw : Int) (rs : List Int) : Nat := match now with
  | none => 0
  | some m => (3 * len m + 16 + (adC cw (len rs) - cw)).toNat
def nwP (now : Option (List Int)) (c : Int) : Int := match now with
  | none => 0
  | some _ => 6 + (c - 16)
theorem u_msC {Q2 : Th → Prop} {now : Option (List Int)} {V1 : List (List Int)} {gp : Nat} (hd : 12 ≤ d) (hg : Gr Θ Θ1) (hwz : kd Θ w = 0) (hw : xo Θ1 w = (3, rs, cw, ew)) (fw : ¬ fz Θ1 w) (hL : LI rs cw 0 gp) (hM : all2 (MsO Θ1) rs V1) (hnow : NwO Θ Θ1 b now c) (hah : -1 ≤ ah) (ahm : ∀ m, now = some m → ah ≤ len m) (hlen : nwL now ≤ 20000) (hrs : len rs ≤ 100000)
    (hQ : ∀ (rs2 : List Int) (cw2 ew2 : Int) (gp2 : Nat) (Θ2 : Th), Gr Θ Θ2 → xo Θ2 w = (3, rs2, cw2, ew2) → ¬ fz Θ2 w → LI rs2 cw2 0 gp2 → all2 (MsO Θ2) rs2 (V1 ++ clL now ah) → len rs2 ≤ len rs + 1 → (now = none → rs2 = rs) → (nwG now cw rs : Int) = cw2 - cw + nwC now → Q2 Θ2) : w2_X1_close ω d (nwG now cw rs) w b ah Θ1 Q2 := sorry
/-- where the loop stands -/
def MsS (Θ Θ1 : Th) (V : List (List Int)) (l : List Int) (w b k : Int) (now : Option (List Int)) (be : Bool) (ah c : Int) (g : Nat) : Prop :=
  ∃ rs cw ew gp V1 j, Gr Θ Θ1 ∧ xo Θ1 w = (3, rs, cw, ew) ∧ ¬ fz Θ1 w ∧ LI rs cw 0 gp ∧ all2 (MsO Θ1) rs V1 ∧ NwO Θ Θ1 b now c ∧ V = V1 ++ msG l k now be ah ∧ -1 ≤ ah ∧ (∀ m, now = some m → ah ≤ len m) ∧ 0 ≤ j ∧ j + nwL now ≤ k ∧ len rs ≤ j ∧ (g : Int) ≤ 1 + cw + 20 * j + nwP now c
theorem u_X1_messagesIn {Q : Int → Th → Prop} (hd : 14 ≤ d) (hs : Str Θ s l) (hwl : wide l = 0) (hl : len l ≤ 10000) (hG : 30 * len l + 60 ≤ (G : Int))
    (hQ : ∀ r rs c e Θ', Gr Θ Θ' → Fx Θ' r (3, rs, c, e) → all2 (MsO Θ') rs (msF l) → 0 ≤ r → Q r Θ') : w2_X1_messagesIn ω d G s Θ Q := sorry
-- files
/-- the messages of a content -/
def mesF (s : Int) (l : List Int) : List (List Int) := if s = 2 then msF l else [l]
theorem u_X18_init {Q : Th → Prop} {r f n : Int} (hd : 1 ≤ d) (h : xo Θ r = (31, [-1, 0], 0, 0)) (hf : ¬ fz Θ r) (hx : 0 < kd Θ f) (hn : inI n) (hQ : ∀ Θ2, GrX (· = r) Θ Θ2 → xo Θ2 r = (31, [f, n], 0, 0) → ¬ fz Θ2 r → Q Θ2) : w2_X18_init ω d G r f n Θ Q := sorry
theorem u_X13_messages {Q : Int → Th → Prop} {F : List Int} {lb ct so fl : Int} (hd : 15 ≤ d) (h : xo Θ a = (26, F, 0, 0)) (h1 : gt F 1 = lb) (h2 : gt F 2 = ct) (hlb : xo Θ lb = (27, [so, fl], 0, 0)) (hs : Str Θ ct l) (hwl : wide l = 0) (hl : len l ≤ 10000) (hG : 30 * len l + 70 ≤ (G : Int))
    (hQ : ∀ r rs c e Θ', Gr Θ Θ' → Fx Θ' r (3, rs, c, e) → all2 (MsO Θ') rs (mesF so l) → 0 ≤ r → Q r Θ') : w2_X13_messages ω d G a Θ Q := sorry
theorem u_X13_isChanged {Q : Int → Th → Prop} {F : List Int} {ct se : Int} (hd : 2 ≤ d) (h : xo Θ a = (26, F, 0, 0)) (h2 : gt F 2 = ct) (h4 : gt F 4 = se) (hs : Str Θ ct l) (hs2 : Str Θ se m) (hQ : ∀ z, z = (if gt F 3 ≠ gt F 5 ∨ l ≠ m then 1 else 0) → Q z Θ) : w2_X13_isChanged ω d G a Θ Q := sorry
theorem u_X13_init {Q : Th → Prop} {nm : Int} (hd : 11 ≤ d) (h : xo Θ a = (26, [-1, -1, -1, 0, -1, 0, 0], 0, 0)) (hf : ¬ fz Θ a) (hs : Str Θ nm l) (hw : wide l = 0) (hl : len l ≤ 100000) (hG : len l + 12 ≤ (G : Int)) (hQ : ∀ lb Θ2, GrX (· = a) Θ Θ2 → xo Θ2 a = (26, [nm, lb, -1, 0, -1, 0, 0], 0, 0) → ¬ fz Θ2 a → kd Θ lb = 0 → Fx Θ2 lb (27, [lbS l, lbG l], 0, 0) → Q Θ2) : w2_X13_init ω d G a nm Θ Q := sorry
end MSB

/-! 74.aa.lean.txt -/
/-! segments -/
set_option maxRecDepth 100000
def w2_X8_init (ω : AO) (d G : Nat) (l0 : Int) (Θ : Th) (Q : Th → Prop) : Prop := Hid (∀ S, bel S → R2 ω S Θ → Ctr ω yX8_init cX8_init 1 none d G [(2, l0)] S (eU S (q2U ω Θ Q)))
def w2_X8_room (ω : AO) (d G : Nat) (l0 l1 : Int) (Θ : Th) (Q : Th → Prop) : Prop := Hid (∀ S, bel S → R2 ω S Θ → Ctr ω yX8_room cX8_room 2 none d G [(2, l0), (0, l1)] S (eU S (q2U ω Θ Q)))
def w2_X8_set (ω : AO) (d G : Nat) (l0 l1 : Int) (Θ : Th) (Q : Th → Prop) : Prop := Hid (∀ S, bel S → R2 ω S Θ → Ctr ω yX8_set cX8_set 2 none d G [(2, l0), (0, l1)] S (eU S (q2U ω Θ Q)))
def w2_X8_get (ω : AO) (d G : Nat) (l0 l1 : Int) (Θ : Th) (Q : Int → Th → Prop) : Prop := Hid (∀ S, bel S → R2 ω S Θ → Ctr ω yX8_get cX8_get 2 (some .boolean) d G [(2, l0), (0, l1)] S (eZ S (q2 ω Θ Q)))
def w2_X8_at (ω : AO) (d G : Nat) (l0 l1 : Int) (Θ : Th) (Q : Int → Th → Prop) : Prop := Hid (∀ S, bel S → R2 ω S Θ → Ctr ω yX8_at cX8_at 2 (some .long) d G [(2, l0), (0, l1)] S (eL S (q2 ω Θ Q)))
def w2_X8_or (ω : AO) (d G : Nat) (l0 l1 : Int) (Θ : Th) (Q : Th → Prop) : Prop := Hid (∀ S, bel S → R2 ω S Θ → Ctr ω yX8_or cX8_or 3 none d G [(2, l0), (2, l1)] S (eU S (q2U ω Θ Q)))
def w2_X8_and (ω : AO) (d G : Nat) (l0 l1 : Int) (Θ : Th) (Q : Th → Prop) : Prop := Hid (∀ S, bel S → R2 ω S Θ → Ctr ω yX8_and cX8_and 3 none d G [(2, l0), (2, l1)] S (eU S (q2U ω Θ Q)))
def w2_X8_andNot (ω : AO) (d G : Nat) (l0 l1 : Int) (Θ : Th) (Q : Th → Prop) : Prop := Hid (∀ S, bel S → R2 ω S Θ → Ctr ω yX8_andNot cX8_andNot 3 none d G [(2, l0), (2, l1)] S (eU S (q2U ω Θ Q)))
def w2_X8_xor (ω : AO) (d G : Nat) (l0 l1 : Int) (Θ : Th) (Q : Th → Prop) : Prop := Hid (∀ S, bel S → R2 ω S Θ → Ctr ω yX8_xor cX8_xor 3 none d G [(2, l0), (2, l1)] S (eU S (q2U ω Θ Q)))
def w2_X8_next (ω : AO) (d G : Nat) (l0 l1 : Int) (Θ : Th) (Q : Int → Th → Prop) : Prop := Hid (∀ S, bel S → R2 ω S Θ → Ctr ω yX8_next cX8_next 3 (some .int) d G [(2, l0), (0, l1)] S (eI S (q2 ω Θ Q)))
def w2_X8_many (ω : AO) (d G : Nat) (l0 : Int) (Θ : Th) (Q : Int → Th → Prop) : Prop := Hid (∀ S, bel S → R2 ω S Θ → Ctr ω yX8_many cX8_many 3 (some .int) d G [(2, l0)] S (eI S (q2 ω Θ Q)))
theorem lf_X8_9_22 : FLk RX8 9 22 0 (.array .long) false := sorry
theorem lr_X8_9_22 : FLkR RX8 9 22 0 (.array .long) := sorry
theorem lm_X8_15 : SLk RX8 15 yJ4_max cJ4_max 2 (some .int) 2 := sorry
theorem lm_X8_21 : SLk RX8 21 yJ11_copyOf_4 cJ11_copyOf_4 3 (some (.array Jvm.ClassFile.FieldType.long)) 2 := sorry
theorem lm_X8_27 : VLk RX8 27 22 yX8_room cX8_room 2 none 1 := sorry
theorem lm_X8_31 : VLk RX8 31 22 yX8_at cX8_at 2 (some .long) 1 := sorry
theorem lm_X8_37 : VLk RX8 37 22 yX8_get cX8_get 2 (some .boolean) 1 := sorry
theorem lm_X8_41 : VLk RX8 41 22 yX8_next cX8_next 3 (some .int) 1 := sorry
set_option maxHeartbeats 4000000 in
theorem s2_X8_init {ω : AO} {d G : Nat} {l0 : Int} {Θ : Th} {Q : Th → Prop} (hB : (1 ≤ d) ∧ (0 ≤ l0) ∧ (0 + 2 ≤ G) ∧ ∀ (v6 : Int) (Θ6 : Th) (u6 : nt Θ ≤ v6 ∧ 0 ≤ v6) (b6 : Bl Θ) (t6 : Θ6 = nu Θ v6 (105, List.replicate ((4 : Int)).toNat 0, 0, 0)), (kd Θ6 l0 = 22) ∧ (¬ fz Θ6 l0) ∧ ∀ (Θ8 : Th) (t8 : Θ8 = pf Θ6 l0 0 v6), Q Θ8) : w2_X8_init ω d G l0 Θ Q := sorry
set_option maxHeartbeats 4000000 in
theorem s2_X8_room {ω : AO} {d G : Nat} {l0 l1 : Int} {Θ : Th} {Q : Th → Prop} (hB : (kd Θ l0 = 22) ∧ ∀ (v2 : Int) (e2 : v2 = gt (vv Θ l0) 0) (r2 : -1 ≤ v2), (kd Θ v2 = 105) ∧ ∀ (v5 : Int) (e5 : v5 = len (vv Θ v2)) (r5 : 0 ≤ v5 ∧ v5 < 2147483648), (-2147483648 ≤ l1 ∧ l1 < 2147483648) ∧ (∀ (c6 : l1 ≤ v5), Q Θ) ∧ (∀ (c6 : v5 < l1), ∀ (v11 : Int) (e11 : v11 = gt (vv Θ l0) 0) (r11 : -1 ≤ v11), ∀ (v17 : Int) (e17 : v17 = gt (vv Θ l0) 0) (r17 : -1 ≤ v17), (kd Θ v17 = 105) ∧ ∀ (v20 : Int) (e20 : v20 = len (vv Θ v17)) (r20 : 0 ≤ v20 ∧ v20 < 2147483648), (1 ≤ d) ∧ (-2147483648 ≤ (2 * v20) ∧ (2 * v20) < 2147483648) ∧ ∀ (x22 : Int) (e22 : x22 = max l1 (2 * v20)) (r22 : -2147483648 ≤ x22 ∧ x22 < 2147483648), ∃ G25 : Nat, (0 + G25 ≤ G) ∧ w2_J11_copyOf_4 ω (d - 1) G25 v11 x22 Θ (fun x25 Θ25 => ∀ (L25 : Le Θ Θ25) (r25 : -1 ≤ x25), (¬ fz Θ25 l0) ∧ (-1 ≤ x25) ∧ ∀ (Θ28 : Th) (t28 : Θ28 = pf Θ25 l0 0 x25), (0 + G25 ≤ G) ∧ Q Θ28))) : w2_X8_room ω d G l0 l1 Θ Q := sorry
set_option maxHeartbeats 4000000 in
theorem s2_X8_set {ω : AO} {d G : Nat} {l0 l1 : Int} {Θ : Th} {Q : Th → Prop} (hB : (-2147483648 ≤ l1 ∧ l1 < 2147483648) ∧ (1 ≤ d) ∧ (kd Θ l0 = 22) ∧ ∃ G7 : Nat, (0 + G7 ≤ G) ∧ w2_X8_room ω (d - 1) G7 l0 ((Int.tdiv l1 64) + 1) Θ (fun Θ7 => ∀ (L7 : Le Θ Θ7), ∀ (v11 : Int) (e11 : v11 = gt (vv Θ7 l0) 0) (r11 : -1 ≤ v11), (kd Θ7 v11 = 105) ∧ (0 ≤ (Int.tdiv l1 64) ∧ (Int.tdiv l1 64) < len (vv Θ7 v11)) ∧ ∀ (v19 : Int) (e19 : v19 = gt (vv Θ7 v11) (Int.tdiv l1 64)) (r19 : -9223372036854775808 ≤ v19 ∧ v19 < 9223372036854775808), (¬ fz Θ7 v11) ∧ ∀ (Θ27 : Th) (t27 : Θ27 = pf Θ7 v11 (Int.tdiv l1 64) (orL v19 (shlL 1 (Int.tmod l1 64)))), (0 + G7 ≤ G) ∧ Q Θ27)) : w2_X8_set ω d G l0 l1 Θ Q := sorry
set_option maxHeartbeats 4000000 in
theorem s2_X8_get {ω : AO} {d G : Nat} {l0 l1 : Int} {Θ : Th} {Q : Int → Th → Prop} (hB : (-2147483648 ≤ l1 ∧ l1 < 2147483648) ∧ (kd Θ l0 = 22) ∧ ∀ (v5 : Int) (e5 : v5 = gt (vv Θ l0) 0) (r5 : -1 ≤ v5), (kd Θ v5 = 105) ∧ ∀ (v8 : Int) (e8 : v8 = len (vv Θ v5)) (r8 : 0 ≤ v8 ∧ v8 < 2147483648), (-2147483648 ≤ (Int.tdiv l1 64) ∧ (Int.tdiv l1 64) < 2147483648) ∧ (∀ (c9 : v8 ≤ (Int.tdiv l1 64)), Q 0 Θ) ∧ (∀ (c9 : (Int.tdiv l1 64) < v8), ∀ (v13 : Int) (e13 : v13 = gt (vv Θ l0) 0) (r13 : -1 ≤ v13), (kd Θ v13 = 105) ∧ (0 ≤ (Int.tdiv l1 64) ∧ (Int.tdiv l1 64) < len (vv Θ v13)) ∧ ∀ (v20 : Int) (e20 : v20 = gt (vv Θ v13) (Int.tdiv l1 64)) (r20 : -9223372036854775808 ≤ v20 ∧ v20 < 9223372036854775808), (∀ (c30 : ¬ (andL (shrL v20 (Int.tmod l1 64)) 1) = 1), Q 0 Θ) ∧ (∀ (c30 : (andL (shrL v20 (Int.tmod l1 64)) 1) = 1), Q 1 Θ))) : w2_X8_get ω d G l0 l1 Θ Q := sorry
set_option maxHeartbeats 4000000 in
theorem s2_X8_at {ω : AO} {d G : Nat} {l0 l1 : Int} {Θ : Th} {Q : Int → Th → Prop} (hB : (kd Θ l0 = 22) ∧ ∀ (v2 : Int) (e2 : v2 = gt (vv Θ l0) 0) (r2 : -1 ≤ v2), (kd Θ v2 = 105) ∧ ∀ (v5 : Int) (e5 : v5 = len (vv Θ v2)) (r5 : 0 ≤ v5 ∧ v5 < 2147483648), (-2147483648 ≤ l1 ∧ l1 < 2147483648) ∧ (∀ (c6 : v5 ≤ l1), Q 0 Θ) ∧ (∀ (c6 : l1 < v5), ∀ (v10 : Int) (e10 : v10 = gt (vv Θ l0) 0) (r10 : -1 ≤ v10), (kd Θ v10 = 105) ∧ (0 ≤ l1 ∧ l1 < len (vv Θ v10)) ∧ ∀ (v14 : Int) (e14 : v14 = gt (vv Θ v10) l1) (r14 : -9223372036854775808 ≤ v14 ∧ v14 < 9223372036854775808), Q v14 Θ)) : w2_X8_at ω d G l0 l1 Θ Q := sorry
def W2_X8_or_11 (ω : AO) (d G : Nat) (l0 l1 l2 : Int) (g : Nat) (Θ : Th) (Q : Th → Prop) : Prop := Hid (SJ2 ω yX8_or cX8_or 3 none d G (fun Sz Θz => (eU Sz (q2U ω Θz Q))) 11 [(2, l0), (2, l1), (0, l2)] [] g Θ)
set_option maxHeartbeats 4000000 in
theorem s2_X8_or {ω : AO} {d G : Nat} {l0 l1 : Int} {Θ : Th} {Q : Th → Prop} (hB : (kd Θ l1 = 22) ∧ ∀ (v2 : Int) (e2 : v2 = gt (vv Θ l1) 0) (r2 : -1 ≤ v2), (kd Θ v2 = 105) ∧ ∀ (v5 : Int) (e5 : v5 = len (vv Θ v2)) (r5 : 0 ≤ v5 ∧ v5 < 2147483648), (1 ≤ d) ∧ (kd Θ l0 = 22) ∧ ∃ G6 : Nat, (0 + G6 ≤ G) ∧ w2_X8_room ω (d - 1) G6 l0 v5 Θ (fun Θ6 => ∀ (L6 : Le Θ Θ6), W2_X8_or_11 ω d G l0 l1 0 (0 + G6) Θ6 Q)) : w2_X8_or ω d G l0 l1 Θ Q := sorry
set_option maxHeartbeats 4000000 in
theorem s2_X8_or_11 {ω : AO} {d G : Nat} {l0 l1 l2 : Int} {g : Nat} {Θ : Th} {Q : Th → Prop} (hB : (kd Θ l0 = 22) ∧ ∀ (v13 : Int) (e13 : v13 = gt (vv Θ l0) 0) (r13 : -1 ≤ v13), (kd Θ v13 = 105) ∧ ∀ (v16 : Int) (e16 : v16 = len (vv Θ v13)) (r16 : 0 ≤ v16 ∧ v16 < 2147483648), (-2147483648 ≤ l2 ∧ l2 < 2147483648) ∧ (∀ (c17 : v16 ≤ l2), (g ≤ G) ∧ Q Θ) ∧ (∀ (c17 : l2 < v16), ∀ (v21 : Int) (e21 : v21 = gt (vv Θ l0) 0) (r21 : -1 ≤ v21), (kd Θ v21 = 105) ∧ (0 ≤ l2 ∧ l2 < len (vv Θ v21)) ∧ ∀ (v26 : Int) (e26 : v26 = gt (vv Θ v21) l2) (r26 : -9223372036854775808 ≤ v26 ∧ v26 < 9223372036854775808), (1 ≤ d) ∧ (kd Θ l1 = 22) ∧ ∃ G29 : Nat, (g + G29 ≤ G) ∧ w2_X8_at ω (d - 1) G29 l1 l2 Θ (fun x29 Θ29 => ∀ (L29 : Le Θ Θ29) (r29 : -9223372036854775808 ≤ x29 ∧ x29 < 9223372036854775808), (¬ fz Θ29 v21) ∧ (0 ≤ l2 ∧ l2 < len (vv Θ29 v21)) ∧ ∀ (Θ33 : Th) (t33 : Θ33 = pf Θ29 v21 l2 (orL v26 x29)), W2_X8_or_11 ω d G l0 l1 ((l2 + 1)) (g + G29) Θ33 Q))) : W2_X8_or_11 ω d G l0 l1 l2 g Θ Q := sorry
def W2_X8_and_2 (ω : AO) (d G : Nat) (l0 l1 l2 : Int) (g : Nat) (Θ : Th) (Q : Th → Prop) : Prop := Hid (SJ2 ω yX8_and cX8_and 3 none d G (fun Sz Θz => (eU Sz (q2U ω Θz Q))) 2 [(2, l0), (2, l1), (0, l2)] [] g Θ)
set_option maxHeartbeats 4000000 in
theorem s2_X8_and {ω : AO} {d G : Nat} {l0 l1 : Int} {Θ : Th} {Q : Th → Prop} (hB : W2_X8_and_2 ω d G l0 l1 0 (0) Θ Q) : w2_X8_and ω d G l0 l1 Θ Q := sorry
set_option maxHeartbeats 4000000 in
theorem s2_X8_and_2 {ω : AO} {d G : Nat} {l0 l1 l2 : Int} {g : Nat} {Θ : Th} {Q : Th → Prop} (hB : (kd Θ l0 = 22) ∧ ∀ (v4 : Int) (e4 : v4 = gt (vv Θ l0) 0) (r4 : -1 ≤ v4), (kd Θ v4 = 105) ∧ ∀ (v7 : Int) (e7 : v7 = len (vv Θ v4)) (r7 : 0 ≤ v7 ∧ v7 < 2147483648), (-2147483648 ≤ l2 ∧ l2 < 2147483648) ∧ (∀ (c8 : v7 ≤ l2), (g ≤ G) ∧ Q Θ) ∧ (∀ (c8 : l2 < v7), ∀ (v12 : Int) (e12 : v12 = gt (vv Θ l0) 0) (r12 : -1 ≤ v12), (kd Θ v12 = 105) ∧ (0 ≤ l2 ∧ l2 < len (vv Θ v12)) ∧ ∀ (v17 : Int) (e17 : v17 = gt (vv Θ v12) l2) (r17 : -9223372036854775808 ≤ v17 ∧ v17 < 9223372036854775808), (1 ≤ d) ∧ (kd Θ l1 = 22) ∧ ∃ G20 : Nat, (g + G20 ≤ G) ∧ w2_X8_at ω (d - 1) G20 l1 l2 Θ (fun x20 Θ20 => ∀ (L20 : Le Θ Θ20) (r20 : -9223372036854775808 ≤ x20 ∧ x20 < 9223372036854775808), (¬ fz Θ20 v12) ∧ (0 ≤ l2 ∧ l2 < len (vv Θ20 v12)) ∧ ∀ (Θ24 : Th) (t24 : Θ24 = pf Θ20 v12 l2 (andL v17 x20)), W2_X8_and_2 ω d G l0 l1 ((l2 + 1)) (g + G20) Θ24 Q))) : W2_X8_and_2 ω d G l0 l1 l2 g Θ Q := sorry
def W2_X8_andNot_2 (ω : AO) (d G : Nat) (l0 l1 l2 : Int) (g : Nat) (Θ : Th) (Q : Th → Prop) : Prop := Hid (SJ2 ω yX8_andNot cX8_andNot 3 none d G (fun Sz Θz => (eU Sz (q2U ω Θz Q))) 2 [(2, l0), (2, l1), (0, l2)] [] g Θ)
set_option maxHeartbeats 4000000 in
theorem s2_X8_andNot {ω : AO} {d G : Nat} {l0 l1 : Int} {Θ : Th} {Q : Th → Prop} (hB : W2_X8_andNot_2 ω d G l0 l1 0 (0) Θ Q) : w2_X8_andNot ω d G l0 l1 Θ Q := sorry
set_option maxHeartbeats 4000000 in
theorem s2_X8_andNot_2 {ω : AO} {d G : Nat} {l0 l1 l2 : Int} {g : Nat} {Θ : Th} {Q : Th → Prop} (hB : (kd Θ l0 = 22) ∧ ∀ (v4 : Int) (e4 : v4 = gt (vv Θ l0) 0) (r4 : -1 ≤ v4), (kd Θ v4 = 105) ∧ ∀ (v7 : Int) (e7 : v7 = len (vv Θ v4)) (r7 : 0 ≤ v7 ∧ v7 < 2147483648), (-2147483648 ≤ l2 ∧ l2 < 2147483648) ∧ (∀ (c8 : v7 ≤ l2), (g ≤ G) ∧ Q Θ) ∧ (∀ (c8 : l2 < v7), ∀ (v12 : Int) (e12 : v12 = gt (vv Θ l0) 0) (r12 : -1 ≤ v12), (kd Θ v12 = 105) ∧ (0 ≤ l2 ∧ l2 < len (vv Θ v12)) ∧ ∀ (v17 : Int) (e17 : v17 = gt (vv Θ v12) l2) (r17 : -9223372036854775808 ≤ v17 ∧ v17 < 9223372036854775808), (1 ≤ d) ∧ (kd Θ l1 = 22) ∧ ∃ G20 : Nat, (g + G20 ≤ G) ∧ w2_X8_at ω (d - 1) G20 l1 l2 Θ (fun x20 Θ20 => ∀ (L20 : Le Θ Θ20) (r20 : -9223372036854775808 ≤ x20 ∧ x20 < 9223372036854775808), (¬ fz Θ20 v12) ∧ (0 ≤ l2 ∧ l2 < len (vv Θ20 v12)) ∧ ∀ (Θ28 : Th) (t28 : Θ28 = pf Θ20 v12 l2 (andL v17 (xorL x20 (-1)))), W2_X8_andNot_2 ω d G l0 l1 ((l2 + 1)) (g + G20) Θ28 Q))) : W2_X8_andNot_2 ω d G l0 l1 l2 g Θ Q := sorry
def W2_X8_xor_11 (ω : AO) (d G : Nat) (l0 l1 l2 : Int) (g : Nat) (Θ : Th) (Q : Th → Prop) : Prop := Hid (SJ2 ω yX8_xor cX8_xor 3 none d G (fun Sz Θz => (eU Sz (q2U ω Θz Q))) 11 [(2, l0), (2, l1), (0, l2)] [] g Θ)
set_option maxHeartbeats 4000000 in
theorem s2_X8_xor {ω : AO} {d G : Nat} {l0 l1 : Int} {Θ : Th} {Q : Th → Prop} (hB : (kd Θ l1 = 22) ∧ ∀ (v2 : Int) (e2 : v2 = gt (vv Θ l1) 0) (r2 : -1 ≤ v2), (kd Θ v2 = 105) ∧ ∀ (v5 : Int) (e5 : v5 = len (vv Θ v2)) (r5 : 0 ≤ v5 ∧ v5 < 2147483648), (1 ≤ d) ∧ (kd Θ l0 = 22) ∧ ∃ G6 : Nat, (0 + G6 ≤ G) ∧ w2_X8_room ω (d - 1) G6 l0 v5 Θ (fun Θ6 => ∀ (L6 : Le Θ Θ6), W2_X8_xor_11 ω d G l0 l1 0 (0 + G6) Θ6 Q)) : w2_X8_xor ω d G l0 l1 Θ Q := sorry
set_option maxHeartbeats 4000000 in
theorem s2_X8_xor_11 {ω : AO} {d G : Nat} {l0 l1 l2 : Int} {g : Nat} {Θ : Th} {Q : Th → Prop} (hB : (kd Θ l0 = 22) ∧ ∀ (v13 : Int) (e13 : v13 = gt (vv Θ l0) 0) (r13 : -1 ≤ v13), (kd Θ v13 = 105) ∧ ∀ (v16 : Int) (e16 : v16 = len (vv Θ v13)) (r16 : 0 ≤ v16 ∧ v16 < 2147483648), (-2147483648 ≤ l2 ∧ l2 < 2147483648) ∧ (∀ (c17 : v16 ≤ l2), (g ≤ G) ∧ Q Θ) ∧ (∀ (c17 : l2 < v16), ∀ (v21 : Int) (e21 : v21 = gt (vv Θ l0) 0) (r21 : -1 ≤ v21), (kd Θ v21 = 105) ∧ (0 ≤ l2 ∧ l2 < len (vv Θ v21)) ∧ ∀ (v26 : Int) (e26 : v26 = gt (vv Θ v21) l2) (r26 : -9223372036854775808 ≤ v26 ∧ v26 < 9223372036854775808), (1 ≤ d) ∧ (kd Θ l1 = 22) ∧ ∃ G29 : Nat, (g + G29 ≤ G) ∧ w2_X8_at ω (d - 1) G29 l1 l2 Θ (fun x29 Θ29 => ∀ (L29 : Le Θ Θ29) (r29 : -9223372036854775808 ≤ x29 ∧ x29 < 9223372036854775808), (¬ fz Θ29 v21) ∧ (0 ≤ l2 ∧ l2 < len (vv Θ29 v21)) ∧ ∀ (Θ33 : Th) (t33 : Θ33 = pf Θ29 v21 l2 (xorL v26 x29)), W2_X8_xor_11 ω d G l0 l1 ((l2 + 1)) (g + G29) Θ33 Q))) : W2_X8_xor_11 ω d G l0 l1 l2 g Θ Q := sorry
def W2_X8_next_2 (ω : AO) (d G : Nat) (l0 l2 : Int) (g : Nat) (Θ : Th) (Q : Int → Th → Prop) : Prop := Hid (SJ2 ω yX8_next cX8_next 3 (some .int) d G (fun Sz Θz => (eI Sz (q2 ω Θz Q))) 2 [(2, l0), vN, (0, l2)] [] g Θ)
set_option maxHeartbeats 4000000 in
theorem s2_X8_next {ω : AO} {d G : Nat} {l0 l1 : Int} {Θ : Th} {Q : Int → Th → Prop} (hB : W2_X8_next_2 ω d G l0 l1 (0) Θ Q) : w2_X8_next ω d G l0 l1 Θ Q := sorry
set_option maxHeartbeats 4000000 in
theorem s2_X8_next_2 {ω : AO} {d G : Nat} {l0 l2 : Int} {g : Nat} {Θ : Th} {Q : Int → Th → Prop} (hB : (kd Θ l0 = 22) ∧ ∀ (v6 : Int) (e6 : v6 = gt (vv Θ l0) 0) (r6 : -1 ≤ v6), (kd Θ v6 = 105) ∧ ∀ (v9 : Int) (e9 : v9 = len (vv Θ v6)) (r9 : 0 ≤ v9 ∧ v9 < 2147483648), (-2147483648 ≤ l2 ∧ l2 < 2147483648) ∧ (-2147483648 ≤ (64 * v9) ∧ (64 * v9) < 2147483648) ∧ (∀ (c11 : (64 * v9) ≤ l2), (g ≤ G) ∧ Q (-1) Θ) ∧ (∀ (c11 : l2 < (64 * v9)), (1 ≤ d) ∧ ∃ G16 : Nat, (g + G16 ≤ G) ∧ w2_X8_get ω (d - 1) G16 l0 l2 Θ (fun x16 Θ16 => ∀ (L16 : Le Θ Θ16) (r16 : x16 = 0 ∨ x16 = 1), (∀ (c19 : x16 = 0), W2_X8_next_2 ω d G l0 ((l2 + 1)) (g + G16) Θ16 Q) ∧ (∀ (c19 : ¬ x16 = 0), (g + G16 ≤ G) ∧ Q l2 Θ16)))) : W2_X8_next_2 ω d G l0 l2 g Θ Q := sorry
def W2_X8_many_8 (ω : AO) (d G : Nat) (l0 l1 l2 : Int) (g : Nat) (Θ : Th) (Q : Int → Th → Prop) : Prop := Hid (SJ2 ω yX8_many cX8_many 3 (some .int) d G (fun Sz Θz => (eI Sz (q2 ω Θz Q))) 8 [(2, l0), (0, l1), (0, l2)] [] g Θ)
set_option maxHeartbeats 4000000 in
theorem s2_X8_many {ω : AO} {d G : Nat} {l0 : Int} {Θ : Th} {Q : Int → Th → Prop} (hB : (1 ≤ d) ∧ (kd Θ l0 = 22) ∧ ∃ G4 : Nat, (0 + G4 ≤ G) ∧ w2_X8_next ω (d - 1) G4 l0 0 Θ (fun x4 Θ4 => ∀ (L4 : Le Θ Θ4) (r4 : -2147483648 ≤ x4 ∧ x4 < 2147483648), W2_X8_many_8 ω d G l0 0 x4 (0 + G4) Θ4 Q)) : w2_X8_many ω d G l0 Θ Q := sorry
set_option maxHeartbeats 4000000 in
theorem s2_X8_many_8 {ω : AO} {d G : Nat} {l0 l1 l2 : Int} {g : Nat} {Θ : Th} {Q : Int → Th → Prop} (hB : (-2147483648 ≤ l2 ∧ l2 < 2147483648) ∧ (∀ (c9 : l2 < 0), (g ≤ G) ∧ (-2147483648 ≤ l1 ∧ l1 < 2147483648) ∧ Q l1 Θ) ∧ (∀ (c9 : 0 ≤ l2), (1 ≤ d) ∧ (kd Θ l0 = 22) ∧ ∃ G19 : Nat, (g + G19 ≤ G) ∧ w2_X8_next ω (d - 1) G19 l0 (l2 + 1) Θ (fun x19 Θ19 => ∀ (L19 : Le Θ Θ19) (r19 : -2147483648 ≤ x19 ∧ x19 < 2147483648), W2_X8_many_8 ω d G l0 ((l1 + 1)) x19 (g + G19) Θ19 Q))) : W2_X8_many_8 ω d G l0 l1 l2 g Θ Q := sorry
/-! 74.ab.lean.txt -/
/-! long rows: copyOf; bits of a long -/
set_option maxRecDepth 100000
section CPJ
variable {ω : AO} {d G : Nat} {S S' : AS} {Θ : Th} {a v n : Int} {l : List Int}
theorem t_J11_copyJ {Q : Int → AS → Prop} (hd : 1 ≤ d) (ht : tg S v = 105) (hn : ln S v < n ∧ n ≤ 60000000) (h0 : 0 ≤ ln S v) (hG : n.toNat / 5 + 2 ≤ G) (hb : bo ω ≤ nx S)
    (hQ : ∀ S', Kp S S' (fun _ => False) → tg S' (nx S) = 105 → ln S' (nx S) = n → (∀ k, 0 ≤ k → k < n → ct S' (nx S) k = if k < ln S v then ct S v k else 0) → nx S' = nx S + 1 → Q (nx S) S') : w_J11_copyOf_4 ω d G v n S Q := sorry
theorem u_J11_copyOf_4 {Q : Int → Th → Prop} (hd : 1 ≤ d) (h : xo Θ a = (105, l, 0, 0)) (hn : len l < n ∧ n ≤ 60000000) (hG : n.toNat / 5 + 2 ≤ G) (hQ : ∀ r Θ', Θ' = nu Θ r (105, l ++ List.replicate (n - len l).toNat 0, 0, 0) → nt Θ ≤ r → Bl Θ → Q r Θ') : w2_J11_copyOf_4 ω d G a n Θ Q := sorry
end CPJ
/-- a bit of a long -/
def btL (x i : Int) : Bool := (BitVec.ofInt 64 x).getLsbD i.toNat
theorem i64_bv (z : Int64) : BitVec.ofInt 64 z.toInt = z.toBitVec := sorry
theorem bv_i64 (x : Int) : (Int64.ofInt x).toBitVec = BitVec.ofInt 64 x := rfl
theorem btL_or (x y i : Int) : btL (orL x y) i = (btL x i || btL y i) := sorry
theorem btL_and (x y i : Int) : btL (andL x y) i = (btL x i && btL y i) := sorry
theorem btL_xor (x y i : Int) : btL (xorL x y) i = xor (btL x i) (btL y i) := sorry
theorem btL_m1 {i : Int} (h : 0 ≤ i ∧ i < 64) : btL (-1) i = true := sorry
theorem btL_0 (i : Int) : btL 0 i = false := by
  unfold btL
  exact BitVec.getLsbD_zero
theorem btL_1 {m i : Int} (hm : 0 ≤ m ∧ m < 64) (hi : 0 ≤ i ∧ i < 64) : btL (shlL 1 m) i = decide (i = m) := sorry
theorem btL_get {x m : Int} (hm : 0 ≤ m ∧ m < 64) : andL (shrL x m) 1 = if btL x m = true then 1 else 0 := sorry
/-! 74.ac.lean.txt -/
/-! numbers that are in, or not -/
set_option maxRecDepth 100000
def biL (l : List Int) (k : Int) : Bool := decide (k < 64 * len l) && btL (gt l (k / 64)) (k % 64)
/-- Bits: which numbers are in, how many longs there are -/
def BtO (Θ : Th) (a c : Int) (n : Int) (f : Int → Bool) : Prop := ∃ l, xo Θ a = (22, [c], 0, 0) ∧ ¬ fz Θ a ∧ xo Θ c = (105, l, 0, 0) ∧ ¬ fz Θ c ∧ len l = n ∧ ∀ k, 0 ≤ k → f k = biL l k
def bmN (n k : Int) : Int := if k ≤ n then n else max k (2 * n)
def bmG (n k : Int) : Int := if k ≤ n then 0 else bmN n k / 5 + 2
abbrev exB (a c : Int) : Int → Prop := fun x => x = a ∨ x = c
/-- the first one from a place on -/
def IsNx (f : Int → Bool) (k r : Int) : Prop := (r = -1 ∧ ∀ j, k ≤ j → f j = false) ∨ (k ≤ r ∧ f r = true ∧ ∀ j, k ≤ j → j < r → f j = false)
theorem biL_set {l : List Int} {w x j : Int} (hw : 0 ≤ w ∧ w < len l) (hj : 0 ≤ j) : biL (l.set w.toNat x) j = if j / 64 = w then btL x (j % 64) else biL l j := sorry
section BTS
variable {ω : AO} {d G : Nat} {Θ Θ1 Θ2 : Th} {a c b e n m k x : Int} {f g : Int → Bool}
theorem BtO.hk (h : BtO Θ a c n f) : (∀ z, exB a c z → 0 < kd Θ z ∧ kd Θ z < 200) ∧ a ≠ c ∧ 0 ≤ n := sorry
theorem BtO.keep {ex : Int → Prop} (h : BtO Θ a c n f) (hg : GrX ex Θ Θ1) (h1 : ¬ ex a) (h2 : ¬ ex c) : BtO Θ1 a c n f := sorry
theorem BtO.out (h : BtO Θ a c n f) (hk : 64 * n ≤ k) (h0 : 0 ≤ k) : f k = false := sorry
theorem BtO.ff (h : BtO Θ a c n f) (hh : ∀ k, 0 ≤ k → g k = f k) : BtO Θ a c n g := sorry
theorem u_X8_init {Q : Th → Prop} (hd : 1 ≤ d) (h : xo Θ a = (22, [-1], 0, 0)) (hf : ¬ fz Θ a) (hG : 2 ≤ G) (hQ : ∀ c Θ', GrX (· = a) Θ Θ' → kd Θ c = 0 → BtO Θ' a c 4 (fun _ => false) → Q Θ') : w2_X8_init ω d G a Θ Q := sorry
theorem u_X8_room {Q : Th → Prop} (hd : 2 ≤ d) (h : BtO Θ a c n f) (hk : k ≤ 1000000 ∧ n ≤ 1000000 ∧ 0 ≤ k) (hG : bmG n k ≤ (G : Int)) (hQ : ∀ c' Θ', GrX (exB a c) Θ Θ' → (c' = c ∨ kd Θ c' = 0) → BtO Θ' a c' (bmN n k) f → Q Θ') : w2_X8_room ω d G a k Θ Q := sorry
theorem bmG_nn (hn : 0 ≤ n) : 0 ≤ bmG n k := sorry
theorem u_X8_set {Q : Th → Prop} (hd : 3 ≤ d) (h : BtO Θ a c n f) (hk : 0 ≤ k ∧ k ≤ 1000000 ∧ n ≤ 1000000) (hG : bmG n (k / 64 + 1) ≤ (G : Int)) (hQ : ∀ c' Θ', GrX (exB a c) Θ Θ' → (c' = c ∨ kd Θ c' = 0) → BtO Θ' a c' (bmN n (k / 64 + 1)) (fun j => f j || decide (j = k)) → Q Θ') : w2_X8_set ω d G a k Θ Q := sorry
theorem u_X8_get {Q : Int → Th → Prop} (h : BtO Θ a c n f) (hk : 0 ≤ k ∧ k ≤ 100000000) (hQ : ∀ z, z = (if f k = true then 1 else 0) → Q z Θ) : w2_X8_get ω d G a k Θ Q := sorry
theorem u_X8_at {Q : Int → Th → Prop} {l : List Int} (h1 : xo Θ a = (22, [c], 0, 0)) (h3 : xo Θ c = (105, l, 0, 0)) (hk : 0 ≤ k ∧ k ≤ 100000000) (hQ : ∀ z, z = (if k < len l then gt l k else 0) → Q z Θ) : w2_X8_at ω d G a k Θ Q := sorry
/-- the walk over all longs with one operation -/
theorem u_bt_op {Q : Th → Prop} {W : Int → Th → Prop} {op : Int → Int → Int} {o2 : Bool → Bool → Bool} (hop : ∀ x y i, 0 ≤ i → i < 64 → btL (op x y) i = o2 (btL x i) (btL y i)) {l0 lb : List Int} (hb1 : xo Θ b = (22, [e], 0, 0)) (hb2 : xo Θ e = (105, lb, 0, 0)) (h0 : xo Θ a = (22, [c], 0, 0)) (h3 : xo Θ c = (105, l0, 0, 0)) (f0 : ¬ fz Θ a) (f3 : ¬ fz Θ c) (hne : b ≠ c ∧ e ≠ c)
    (hW : ∀ (k : Int) (l : List Int) (Θ1 : Th), 0 ≤ k → k ≤ len l0 → xo Θ1 a = (22, [c], 0, 0) → xo Θ1 c = (105, l, 0, 0) → ¬ fz Θ1 c → xo Θ1 b = (22, [e], 0, 0) → xo Θ1 e = (105, lb, 0, 0) → len l = len l0 → (len l0 ≤ k → Q Θ1) → (k < len l0 → ∀ x Θ2, x = (if k < len lb then gt lb k else 0) → Θ2 = pf Θ1 c k (op (gt l k) x) → W (k + 1) Θ2) → W k Θ1)
    (hQ : ∀ Θ' l', GrX (· = c) Θ Θ' → xo Θ' a = (22, [c], 0, 0) → ¬ fz Θ' a → xo Θ' c = (105, l', 0, 0) → ¬ fz Θ' c → len l' = len l0 → (∀ j, 0 ≤ j → biL l' j = if j < 64 * len l0 then o2 (biL l0 j) (biL lb j) else false) → Q Θ') : W 0 Θ := sorry
theorem u_X8_or {Q : Th → Prop} (hd : 3 ≤ d) (h : BtO Θ a c n f) (hb : BtO Θ b e m g) (hne : a ≠ b ∧ c ≠ e) (hnm : n ≤ 1000000 ∧ m ≤ 1000000) (hG : bmG n m ≤ (G : Int)) (hQ : ∀ c' Θ', GrX (exB a c) Θ Θ' → (c' = c ∨ kd Θ c' = 0) → BtO Θ' a c' (bmN n m) (fun j => f j || g j) → Q Θ') : w2_X8_or ω d G a b Θ Q := sorry
theorem u_X8_xor {Q : Th → Prop} (hd : 3 ≤ d) (h : BtO Θ a c n f) (hb : BtO Θ b e m g) (hne : a ≠ b ∧ c ≠ e) (hnm : n ≤ 1000000 ∧ m ≤ 1000000) (hG : bmG n m ≤ (G : Int)) (hQ : ∀ c' Θ', GrX (exB a c) Θ Θ' → (c' = c ∨ kd Θ c' = 0) → BtO Θ' a c' (bmN n m) (fun j => xor (f j) (g j)) → Q Θ') : w2_X8_xor ω d G a b Θ Q := sorry
theorem u_X8_and {Q : Th → Prop} (hd : 3 ≤ d) (h : BtO Θ a c n f) (hb : BtO Θ b e m g) (hne : a ≠ b ∧ c ≠ e) (hnm : n ≤ 1000000 ∧ m ≤ 1000000) (hQ : ∀ Θ', GrX (exB a c) Θ Θ' → BtO Θ' a c n (fun j => f j && g j) → Q Θ') : w2_X8_and ω d G a b Θ Q := sorry
theorem u_X8_andNot {Q : Th → Prop} (hd : 3 ≤ d) (h : BtO Θ a c n f) (hb : BtO Θ b e m g) (hne : a ≠ b ∧ c ≠ e) (hnm : n ≤ 1000000 ∧ m ≤ 1000000) (hQ : ∀ Θ', GrX (exB a c) Θ Θ' → BtO Θ' a c n (fun j => f j && !g j) → Q Θ') : w2_X8_andNot ω d G a b Θ Q := sorry
theorem u_X8_next {Q : Int → Th → Prop} (hd : 1 ≤ d) (h : BtO Θ a c n f) (hk : 0 ≤ k ∧ k ≤ 1000000 ∧ n ≤ 100000) (hQ : ∀ r, IsNx f k r → -1 ≤ r → r < 64 * n ∨ r = -1 → Q r Θ) : w2_X8_next ω d G a k Θ Q := sorry
/-- how many are in -/
def cnB (f : Int → Bool) (k : Int) : Nat → Int
  | 0 => 0
  | N + 1 => (if f k = true then 1 else 0) + cnB f (k + 1) N
theorem cnB_0 {f : Int → Bool} : ∀ (N : Nat) (k : Int), (∀ j, k ≤ j → f j = false) → cnB f k N = 0 := sorry
theorem cnB_sk {f : Int → Bool} : ∀ (N : Nat) (k r : Int), k ≤ r → (∀ j, k ≤ j → j < r → f j = false) → r ≤ k + N → cnB f k N = cnB f r (N - (r - k).toNat) := sorry
theorem cnB_in {f : Int → Bool} : ∀ (N : Nat) (k : Int), 0 ≤ cnB f k N ∧ cnB f k N ≤ N := sorry
theorem u_X8_many {Q : Int → Th → Prop} (hd : 2 ≤ d) (h : BtO Θ a c n f) (hn1 : n ≤ 10000) (hQ : Q (cnB f 0 (64 * n).toNat) Θ) : w2_X8_many ω d G a Θ Q := sorry
end BTS

/-! 75.aa.lean.txt -/
/-! segments -/
set_option maxRecDepth 100000
def w2_X1_findIn (ω : AO) (d G : Nat) (l0 l1 : Int) (Θ : Th) (Q : Int → Th → Prop) : Prop := Hid (∀ S, bel S → R2 ω S Θ → Ctr ω yX1_findIn cX1_findIn 5 (some .int) d G [(2, l0), (2, l1)] S (eI S (q2 ω Θ Q)))
def w2_X17_init (ω : AO) (d G : Nat) (l0 : Int) (Θ : Th) (Q : Th → Prop) : Prop := Hid (∀ S, bel S → R2 ω S Θ → Ctr ω yX17_init cX17_init 1 none d G [(2, l0)] S (eU S (q2U ω Θ Q)))
def w2_X17_isAt (ω : AO) (d G : Nat) (l0 l1 l2 : Int) (Θ : Th) (Q : Int → Th → Prop) : Prop := Hid (∀ S, bel S → R2 ω S Θ → Ctr ω yX17_isAt cX17_isAt 3 (some .boolean) d G [(2, l0), (0, l1), (2, l2)] S (eZ S (q2 ω Θ Q)))
def w2_X17_size (ω : AO) (d G : Nat) (l0 : Int) (Θ : Th) (Q : Int → Th → Prop) : Prop := Hid (∀ S, bel S → R2 ω S Θ → Ctr ω yX17_size cX17_size 1 (some .int) d G [(2, l0)] S (eI S (q2 ω Θ Q)))
def w2_X17_isEmpty (ω : AO) (d G : Nat) (l0 : Int) (Θ : Th) (Q : Int → Th → Prop) : Prop := Hid (∀ S, bel S → R2 ω S Θ → Ctr ω yX17_isEmpty cX17_isEmpty 1 (some .boolean) d G [(2, l0)] S (eZ S (q2 ω Θ Q)))
def w2_X17_keyAt (ω : AO) (d G : Nat) (l0 l1 : Int) (Θ : Th) (Q : Int → Th → Prop) : Prop := Hid (∀ S, bel S → R2 ω S Θ → Ctr ω yX17_keyAt cX17_keyAt 2 (some (.object "java/lang/String")) d G [(2, l0), (0, l1)] S (eA S (q2 ω Θ Q)))
def w2_X17_valueAt (ω : AO) (d G : Nat) (l0 l1 : Int) (Θ : Th) (Q : Int → Th → Prop) : Prop := Hid (∀ S, bel S → R2 ω S Θ → Ctr ω yX17_valueAt cX17_valueAt 2 (some (.object "java/lang/Object")) d G [(2, l0), (0, l1)] S (eA S (q2 ω Θ Q)))
def w2_X17_containsKey (ω : AO) (d G : Nat) (l0 l1 : Int) (Θ : Th) (Q : Int → Th → Prop) : Prop := Hid (∀ S, bel S → R2 ω S Θ → Ctr ω yX17_containsKey cX17_containsKey 2 (some .boolean) d G [(2, l0), (2, l1)] S (eZ S (q2 ω Θ Q)))
def w2_X17_get (ω : AO) (d G : Nat) (l0 l1 : Int) (Θ : Th) (Q : Int → Th → Prop) : Prop := Hid (∀ S, bel S → R2 ω S Θ → Ctr ω yX17_get cX17_get 3 (some (.object "java/lang/Object")) d G [(2, l0), (2, l1)] S (eA S (q2 ω Θ Q)))
def w2_X17_put (ω : AO) (d G : Nat) (l0 l1 l2 : Int) (Θ : Th) (Q : Int → Th → Prop) : Prop := Hid (∀ S, bel S → R2 ω S Θ → Ctr ω yX17_put cX17_put 4 (some (.object "java/lang/Object")) d G [(2, l0), (2, l1), (2, l2)] S (eA S (q2 ω Θ Q)))
def w2_X17_remove (ω : AO) (d G : Nat) (l0 l1 : Int) (Θ : Th) (Q : Int → Th → Prop) : Prop := Hid (∀ S, bel S → R2 ω S Θ → Ctr ω yX17_remove cX17_remove 3 (some (.object "java/lang/Object")) d G [(2, l0), (2, l1)] S (eA S (q2 ω Θ Q)))
def w2_X17_clear (ω : AO) (d G : Nat) (l0 : Int) (Θ : Th) (Q : Th → Prop) : Prop := Hid (∀ S, bel S → R2 ω S Θ → Ctr ω yX17_clear cX17_clear 1 none d G [(2, l0)] S (eU S (q2U ω Θ Q)))
def w2_X9_addAll (ω : AO) (d G : Nat) (l0 l1 l2 : Int) (Θ : Th) (Q : Th → Prop) : Prop := Hid (∀ S, bel S → R2 ω S Θ → Ctr ω yX9_addAll cX9_addAll 5 none d G [(2, l0), (2, l1), (1, l2)] S (eU S (q2U ω Θ Q)))
def w2_X48_init (ω : AO) (d G : Nat) (l0 l1 : Int) (Θ : Th) (Q : Th → Prop) : Prop := Hid (∀ S, bel S → R2 ω S Θ → Ctr ω yX48_init cX48_init 3 none d G [(2, l0), (2, l1)] S (eU S (q2U ω Θ Q)))
theorem lm_X1_203 : SLk RX1 203 yX12_order cX12_order 3 (some .int) 2 := sorry
theorem lm_X17_9 : ILk RX17 9 yJ7_init cJ7_init 1 0 := sorry
theorem lf_X17_10_30 : FLk RX17 10 30 0 (.object "java/util/ArrayList") true := sorry
theorem lf_X17_16_30 : FLk RX17 16 30 1 (.object "java/util/ArrayList") true := sorry
theorem lr_X17_10_30 : FLkR RX17 10 30 0 (.object "java/util/ArrayList") := sorry
theorem lm_X17_19 : VLk RX17 19 3 yJ7_size cJ7_size 1 (some .int) 0 := sorry
theorem lm_X17_23 : VLk RX17 23 3 yJ7_get cJ7_get 2 (some (.object "java/lang/Object")) 1 := sorry
theorem lm_X17_29 : VLk RX17 29 2 yJ2_equals cJ2_equals 3 (some .boolean) 1 := sorry
theorem lm_X17_33 : VLk RX17 33 3 yJ7_isEmpty cJ7_isEmpty 1 (some .boolean) 0 := sorry
theorem lr_X17_16_30 : FLkR RX17 16 30 1 (.object "java/util/ArrayList") := sorry
theorem ln_X17_37 : NLk RX17 37 yX1_findIn cX1_findIn 5 (some .int) 2 := sorry
theorem lm_X17_43 : VLk RX17 43 30 yX17_isAt cX17_isAt 3 (some .boolean) 2 := sorry
theorem lm_X17_51 : VLk RX17 51 3 yJ7_add_3 cJ7_add_3 5 none 2 := sorry
theorem lm_X17_47 : VLk RX17 47 3 yJ7_set cJ7_set 4 (some (.object "java/lang/Object")) 2 := sorry
theorem lm_X17_55 : VLk RX17 55 3 yJ7_remove_2 cJ7_remove_2 4 (some (.object "java/lang/Object")) 1 := sorry
theorem lm_X17_58 : VLk RX17 58 3 yJ7_clear cJ7_clear 4 none 0 := sorry
theorem lm_X48_9 : ILk RX48 9 yJ7_init cJ7_init 1 0 := sorry
theorem lf_X48_10_53 : FLk RX48 10 53 0 (.object "java/util/ArrayList") true := sorry
theorem lf_X48_16_53 : FLk RX48 16 53 1 (.object "java/util/ArrayList") true := sorry
theorem lm_X48_19 : VLk RX48 19 30 yX17_size cX17_size 1 (some .int) 0 := sorry
theorem lr_X48_10_53 : FLkR RX48 10 53 0 (.object "java/util/ArrayList") := sorry
theorem lm_X48_25 : VLk RX48 25 30 yX17_keyAt cX17_keyAt 2 (some (.object "java/lang/String")) 1 := sorry
theorem lm_X48_29 : VLk RX48 29 3 yJ7_add cJ7_add 2 (some .boolean) 1 := sorry
theorem lr_X48_16_53 : FLkR RX48 16 53 1 (.object "java/util/ArrayList") := sorry
theorem lm_X48_33 : VLk RX48 33 30 yX17_valueAt cX17_valueAt 2 (some (.object "java/lang/Object")) 1 := sorry
def W2_X1_findIn_7 (ω : AO) (d G : Nat) (l0 l1 l2 l3 : Int) (g : Nat) (Θ : Th) (Q : Int → Th → Prop) : Prop := Hid (SJ2 ω yX1_findIn cX1_findIn 5 (some .int) d G (fun Sz Θz => (eI Sz (q2 ω Θz Q))) 7 [(2, l0), (2, l1), (0, l2), (0, l3), vN] [] g Θ)
set_option maxHeartbeats 4000000 in
theorem s2_X1_findIn {ω : AO} {d G : Nat} {l0 l1 : Int} {Θ : Th} {Q : Int → Th → Prop} (hB : (1 ≤ d) ∧ (kd Θ l0 = 3) ∧ ∀ (x3 : Int) (e3 : x3 = len (vv Θ l0)) (r3 : -2147483648 ≤ x3 ∧ x3 < 2147483648), W2_X1_findIn_7 ω d G l0 l1 0 x3 (0) Θ Q) : w2_X1_findIn ω d G l0 l1 Θ Q := sorry
set_option maxHeartbeats 4000000 in
theorem s2_X1_findIn_7 {ω : AO} {d G : Nat} {l0 l1 l2 l3 : Int} {g : Nat} {Θ : Th} {Q : Int → Th → Prop} (hB : (-2147483648 ≤ l2 ∧ l2 < 2147483648) ∧ (-2147483648 ≤ l3 ∧ l3 < 2147483648) ∧ (∀ (c9 : l3 ≤ l2), (g ≤ G) ∧ Q l2 Θ) ∧ (∀ (c9 : l2 < l3), (-2147483648 ≤ (l2 + l3) ∧ (l2 + l3) < 2147483648) ∧ (1 ≤ d) ∧ (kd Θ l0 = 3) ∧ (0 ≤ (Int.tdiv (l2 + l3) 2) ∧ (Int.tdiv (l2 + l3) 2) < len (vv Θ l0)) ∧ (3 ≤ d) ∧ (g ≤ G) ∧ ∀ (x22 : Int) (e22 : x22 = gt (vv Θ l0) (Int.tdiv (l2 + l3) 2)) (r22 : -1 ≤ x22), (x22 < 0 ∨ kd Θ x22 ∈ [2]) ∧ (kd Θ x22 = 2) ∧ (kd Θ l1 = 2) ∧ (6 ≤ d) ∧ ∀ (x29 : Int) (e29 : x29 = cmpL (vv Θ x22) (vv Θ l1)) (r29 : -2147483648 ≤ x29 ∧ x29 < 2147483648), (∀ (c32 : 0 ≤ x29), W2_X1_findIn_7 ω d G l0 l1 l2 ((Int.tdiv (l2 + l3) 2)) (g) Θ Q) ∧ (∀ (c32 : x29 < 0), W2_X1_findIn_7 ω d G l0 l1 (((Int.tdiv (l2 + l3) 2) + 1)) l3 (g) Θ Q))) : W2_X1_findIn_7 ω d G l0 l1 l2 l3 g Θ Q := sorry
set_option maxHeartbeats 4000000 in
theorem s2_X17_init {ω : AO} {d G : Nat} {l0 : Int} {Θ : Th} {Q : Th → Prop} (hB : (1 ≤ d) ∧ (0 ≤ l0) ∧ (0 + 1 ≤ G) ∧ ∀ (v5 : Int) (Θ5 : Th) (u5 : nt Θ ≤ v5 ∧ 0 ≤ v5) (b5 : Bl Θ) (t5 : Θ5 = nu Θ v5 (203, [], 0, 0)), (4 ≤ d) ∧ ∀ (k9 : Int) (Θ9 : Th) (t9 : Θ9 = uq Θ5 v5 (3, [], 0, k9)), (kd Θ9 l0 = 30) ∧ (¬ fz Θ9 l0) ∧ ∀ (Θ12 : Th) (t12 : Θ12 = pf Θ9 l0 0 v5), (0 + 1 + 1 ≤ G) ∧ ∀ (v16 : Int) (Θ16 : Th) (u16 : nt Θ12 ≤ v16 ∧ 0 ≤ v16) (b16 : Bl Θ12) (t16 : Θ16 = nu Θ12 v16 (203, [], 0, 0)), ∀ (k20 : Int) (Θ20 : Th) (t20 : Θ20 = uq Θ16 v16 (3, [], 0, k20)), (¬ fz Θ20 l0) ∧ ∀ (Θ23 : Th) (t23 : Θ23 = pf Θ20 l0 1 v16), Q Θ23) : w2_X17_init ω d G l0 Θ Q := sorry
set_option maxHeartbeats 4000000 in
theorem s2_X17_isAt {ω : AO} {d G : Nat} {l0 l1 l2 : Int} {Θ : Th} {Q : Int → Th → Prop} (hB : (kd Θ l0 = 30) ∧ ∀ (v2 : Int) (e2 : v2 = gt (vv Θ l0) 0) (r2 : -1 ≤ v2), (1 ≤ d) ∧ (kd Θ v2 = 3) ∧ ∀ (x5 : Int) (e5 : x5 = len (vv Θ v2)) (r5 : -2147483648 ≤ x5 ∧ x5 < 2147483648), (-2147483648 ≤ l1 ∧ l1 < 2147483648) ∧ (∀ (c8 : x5 ≤ l1), Q 0 Θ) ∧ (∀ (c8 : l1 < x5), ∀ (v12 : Int) (e12 : v12 = gt (vv Θ l0) 0) (r12 : -1 ≤ v12), (kd Θ v12 = 3) ∧ (0 ≤ l1 ∧ l1 < len (vv Θ v12)) ∧ (3 ≤ d) ∧ ∀ (x16 : Int) (e16 : x16 = gt (vv Θ v12) l1) (r16 : -1 ≤ x16), (x16 < 0 ∨ kd Θ x16 ∈ [2]) ∧ (kd Θ x16 = 2) ∧ (kd Θ l2 = 2) ∧ (2 ≤ d) ∧ ∀ (x23 : Int) (e23 : x23 = if vv Θ x16 = vv Θ l2 then 1 else 0) (r23 : x23 = 0 ∨ x23 = 1), (∀ (c26 : x23 = 0), Q 0 Θ) ∧ (∀ (c26 : ¬ x23 = 0), Q 1 Θ))) : w2_X17_isAt ω d G l0 l1 l2 Θ Q := sorry
set_option maxHeartbeats 4000000 in
theorem s2_X17_size {ω : AO} {d G : Nat} {l0 : Int} {Θ : Th} {Q : Int → Th → Prop} (hB : (kd Θ l0 = 30) ∧ ∀ (v1 : Int) (e1 : v1 = gt (vv Θ l0) 0) (r1 : -1 ≤ v1), (1 ≤ d) ∧ (kd Θ v1 = 3) ∧ ∀ (x4 : Int) (e4 : x4 = len (vv Θ v1)) (r4 : -2147483648 ≤ x4 ∧ x4 < 2147483648), Q x4 Θ) : w2_X17_size ω d G l0 Θ Q := sorry
set_option maxHeartbeats 4000000 in
theorem s2_X17_isEmpty {ω : AO} {d G : Nat} {l0 : Int} {Θ : Th} {Q : Int → Th → Prop} (hB : (kd Θ l0 = 30) ∧ ∀ (v1 : Int) (e1 : v1 = gt (vv Θ l0) 0) (r1 : -1 ≤ v1), (1 ≤ d) ∧ (kd Θ v1 = 3) ∧ ∀ (x4 : Int) (e4 : x4 = if vv Θ v1 = [] then 1 else 0) (r4 : x4 = 0 ∨ x4 = 1), Q x4 Θ) : w2_X17_isEmpty ω d G l0 Θ Q := sorry
set_option maxHeartbeats 4000000 in
theorem s2_X17_keyAt {ω : AO} {d G : Nat} {l0 l1 : Int} {Θ : Th} {Q : Int → Th → Prop} (hB : (kd Θ l0 = 30) ∧ ∀ (v1 : Int) (e1 : v1 = gt (vv Θ l0) 0) (r1 : -1 ≤ v1), (1 ≤ d) ∧ (kd Θ v1 = 3) ∧ (0 ≤ l1 ∧ l1 < len (vv Θ v1)) ∧ (3 ≤ d) ∧ ∀ (x5 : Int) (e5 : x5 = gt (vv Θ v1) l1) (r5 : -1 ≤ x5), (x5 < 0 ∨ kd Θ x5 ∈ [2]) ∧ Q x5 Θ) : w2_X17_keyAt ω d G l0 l1 Θ Q := sorry
set_option maxHeartbeats 4000000 in
theorem s2_X17_valueAt {ω : AO} {d G : Nat} {l0 l1 : Int} {Θ : Th} {Q : Int → Th → Prop} (hB : (kd Θ l0 = 30) ∧ ∀ (v1 : Int) (e1 : v1 = gt (vv Θ l0) 1) (r1 : -1 ≤ v1), (1 ≤ d) ∧ (kd Θ v1 = 3) ∧ (0 ≤ l1 ∧ l1 < len (vv Θ v1)) ∧ (3 ≤ d) ∧ ∀ (x5 : Int) (e5 : x5 = gt (vv Θ v1) l1) (r5 : -1 ≤ x5), Q x5 Θ) : w2_X17_valueAt ω d G l0 l1 Θ Q := sorry
set_option maxHeartbeats 4000000 in
theorem s2_X17_containsKey {ω : AO} {d G : Nat} {l0 l1 : Int} {Θ : Th} {Q : Int → Th → Prop} (hB : (kd Θ l0 = 30) ∧ ∀ (v2 : Int) (e2 : v2 = gt (vv Θ l0) 0) (r2 : -1 ≤ v2), (1 ≤ d) ∧ ∃ G6 : Nat, (0 + G6 ≤ G) ∧ w2_X1_findIn ω (d - 1) G6 v2 l1 Θ (fun x6 Θ6 => ∀ (L6 : Le Θ Θ6) (r6 : -2147483648 ≤ x6 ∧ x6 < 2147483648), ∃ G10 : Nat, (0 + G6 + G10 ≤ G) ∧ w2_X17_isAt ω (d - 1) G10 l0 x6 l1 Θ6 (fun x10 Θ10 => ∀ (L10 : Le Θ6 Θ10) (r10 : x10 = 0 ∨ x10 = 1), (0 + G6 + G10 ≤ G) ∧ Q x10 Θ10))) : w2_X17_containsKey ω d G l0 l1 Θ Q := sorry
set_option maxHeartbeats 4000000 in
theorem s2_X17_get {ω : AO} {d G : Nat} {l0 l1 : Int} {Θ : Th} {Q : Int → Th → Prop} (hB : (kd Θ l0 = 30) ∧ ∀ (v1 : Int) (e1 : v1 = gt (vv Θ l0) 0) (r1 : -1 ≤ v1), (1 ≤ d) ∧ ∃ G5 : Nat, (0 + G5 ≤ G) ∧ w2_X1_findIn ω (d - 1) G5 v1 l1 Θ (fun x5 Θ5 => ∀ (L5 : Le Θ Θ5) (r5 : -2147483648 ≤ x5 ∧ x5 < 2147483648), ∃ G12 : Nat, (0 + G5 + G12 ≤ G) ∧ w2_X17_isAt ω (d - 1) G12 l0 x5 l1 Θ5 (fun x12 Θ12 => ∀ (L12 : Le Θ5 Θ12) (r12 : x12 = 0 ∨ x12 = 1), (∀ (c15 : x12 = 0), (0 + G5 + G12 ≤ G) ∧ (-1 ≤ (-1)) ∧ Q (-1) Θ12) ∧ (∀ (c15 : ¬ x12 = 0), ∀ (v19 : Int) (e19 : v19 = gt (vv Θ12 l0) 1) (r19 : -1 ≤ v19), (kd Θ12 v19 = 3) ∧ (0 ≤ x5 ∧ x5 < len (vv Θ12 v19)) ∧ (3 ≤ d) ∧ (0 + G5 + G12 ≤ G) ∧ ∀ (x23 : Int) (e23 : x23 = gt (vv Θ12 v19) x5) (r23 : -1 ≤ x23), Q x23 Θ12)))) : w2_X17_get ω d G l0 l1 Θ Q := sorry
set_option maxHeartbeats 4000000 in
theorem s2_X17_put {ω : AO} {d G : Nat} {l0 l1 l2 : Int} {Θ : Th} {Q : Int → Th → Prop} (hB : (kd Θ l0 = 30) ∧ ∀ (v1 : Int) (e1 : v1 = gt (vv Θ l0) 0) (r1 : -1 ≤ v1), (1 ≤ d) ∧ ∃ G5 : Nat, (0 + G5 ≤ G) ∧ w2_X1_findIn ω (d - 1) G5 v1 l1 Θ (fun x5 Θ5 => ∀ (L5 : Le Θ Θ5) (r5 : -2147483648 ≤ x5 ∧ x5 < 2147483648), ∃ G12 : Nat, (0 + G5 + G12 ≤ G) ∧ w2_X17_isAt ω (d - 1) G12 l0 x5 l1 Θ5 (fun x12 Θ12 => ∀ (L12 : Le Θ5 Θ12) (r12 : x12 = 0 ∨ x12 = 1), (∀ (c15 : x12 = 0), ∀ (v29 : Int) (e29 : v29 = gt (vv Θ12 l0) 0) (r29 : -1 ≤ v29), (kd Θ12 v29 = 3) ∧ (¬ fz Θ12 v29) ∧ (rf Θ12 l1) ∧ (adC (cp Θ12 v29) (len (vv Θ12 v29)) ≤ 60000000) ∧ (0 ≤ x5 ∧ x5 ≤ len (vv Θ12 v29)) ∧ (7 ≤ d) ∧ (0 + G5 + G12 + (adC (cp Θ12 v29) (len (vv Θ12 v29)) - cp Θ12 v29).toNat ≤ G) ∧ ∀ (k34 : Int) (Θ34 : Th) (t34 : Θ34 = uq Θ12 v29 (3, ins (vv Θ12 v29) x5 l1, adC (cp Θ12 v29) (len (vv Θ12 v29)), k34)), ∀ (v38 : Int) (e38 : v38 = gt (vv Θ34 l0) 1) (r38 : -1 ≤ v38), (kd Θ34 v38 = 3) ∧ (¬ fz Θ34 v38) ∧ (rf Θ34 l2) ∧ (adC (cp Θ34 v38) (len (vv Θ34 v38)) ≤ 60000000) ∧ (0 ≤ x5 ∧ x5 ≤ len (vv Θ34 v38)) ∧ (0 + G5 + G12 + (adC (cp Θ12 v29) (len (vv Θ12 v29)) - cp Θ12 v29).toNat + (adC (cp Θ34 v38) (len (vv Θ34 v38)) - cp Θ34 v38).toNat ≤ G) ∧ ∀ (k43 : Int) (Θ43 : Th) (t43 : Θ43 = uq Θ34 v38 (3, ins (vv Θ34 v38) x5 l2, adC (cp Θ34 v38) (len (vv Θ34 v38)), k43)), (-1 ≤ (-1)) ∧ Q (-1) Θ43) ∧ (∀ (c15 : ¬ x12 = 0), ∀ (v19 : Int) (e19 : v19 = gt (vv Θ12 l0) 1) (r19 : -1 ≤ v19), (kd Θ12 v19 = 3) ∧ (¬ fz Θ12 v19) ∧ (rf Θ12 l2) ∧ (0 ≤ x5 ∧ x5 < len (vv Θ12 v19)) ∧ (3 ≤ d) ∧ (0 + G5 + G12 ≤ G) ∧ ∀ (x24 : Int) (e24 : x24 = gt (vv Θ12 v19) x5) (r24 : -1 ≤ x24), ∀ (Θ24 : Th) (t24 : Θ24 = uq Θ12 v19 (3, (vv Θ12 v19).set (x5).toNat l2, cp Θ12 v19, cx Θ12 v19)), Q x24 Θ24)))) : w2_X17_put ω d G l0 l1 l2 Θ Q := sorry
set_option maxHeartbeats 4000000 in
theorem s2_X17_remove {ω : AO} {d G : Nat} {l0 l1 : Int} {Θ : Th} {Q : Int → Th → Prop} (hB : (kd Θ l0 = 30) ∧ ∀ (v1 : Int) (e1 : v1 = gt (vv Θ l0) 0) (r1 : -1 ≤ v1), (1 ≤ d) ∧ ∃ G5 : Nat, (0 + G5 ≤ G) ∧ w2_X1_findIn ω (d - 1) G5 v1 l1 Θ (fun x5 Θ5 => ∀ (L5 : Le Θ Θ5) (r5 : -2147483648 ≤ x5 ∧ x5 < 2147483648), ∃ G12 : Nat, (0 + G5 + G12 ≤ G) ∧ w2_X17_isAt ω (d - 1) G12 l0 x5 l1 Θ5 (fun x12 Θ12 => ∀ (L12 : Le Θ5 Θ12) (r12 : x12 = 0 ∨ x12 = 1), (∀ (c15 : ¬ x12 = 0), ∀ (v21 : Int) (e21 : v21 = gt (vv Θ12 l0) 0) (r21 : -1 ≤ v21), (kd Θ12 v21 = 3) ∧ (¬ fz Θ12 v21) ∧ (0 ≤ x5 ∧ x5 < len (vv Θ12 v21)) ∧ (3 ≤ d) ∧ (0 + G5 + G12 ≤ G) ∧ ∀ (x25 : Int) (e25 : x25 = gt (vv Θ12 v21) x5) (r25 : -1 ≤ x25), ∀ (k25 : Int) (Θ25 : Th) (t25 : Θ25 = uq Θ12 v21 (3, del (vv Θ12 v21) x5, cp Θ12 v21, k25)), ∀ (v30 : Int) (e30 : v30 = gt (vv Θ25 l0) 1) (r30 : -1 ≤ v30), (kd Θ25 v30 = 3) ∧ (¬ fz Θ25 v30) ∧ (0 ≤ x5 ∧ x5 < len (vv Θ25 v30)) ∧ ∀ (x34 : Int) (e34 : x34 = gt (vv Θ25 v30) x5) (r34 : -1 ≤ x34), ∀ (k34 : Int) (Θ34 : Th) (t34 : Θ34 = uq Θ25 v30 (3, del (vv Θ25 v30) x5, cp Θ25 v30, k34)), Q x34 Θ34) ∧ (∀ (c15 : x12 = 0), (0 + G5 + G12 ≤ G) ∧ (-1 ≤ (-1)) ∧ Q (-1) Θ12)))) : w2_X17_remove ω d G l0 l1 Θ Q := sorry
set_option maxHeartbeats 4000000 in
theorem s2_X17_clear {ω : AO} {d G : Nat} {l0 : Int} {Θ : Th} {Q : Th → Prop} (hB : (kd Θ l0 = 30) ∧ ∀ (v1 : Int) (e1 : v1 = gt (vv Θ l0) 0) (r1 : -1 ≤ v1), (1 ≤ d) ∧ (kd Θ v1 = 3) ∧ (¬ fz Θ v1) ∧ (2 ≤ d) ∧ ∀ (k4 : Int) (Θ4 : Th) (t4 : Θ4 = uq Θ v1 (3, [], cp Θ v1, k4)), ∀ (v8 : Int) (e8 : v8 = gt (vv Θ4 l0) 1) (r8 : -1 ≤ v8), (kd Θ4 v8 = 3) ∧ (¬ fz Θ4 v8) ∧ ∀ (k11 : Int) (Θ11 : Th) (t11 : Θ11 = uq Θ4 v8 (3, [], cp Θ4 v8, k11)), Q Θ11) : w2_X17_clear ω d G l0 Θ Q := sorry
def W2_X9_addAll_3 (ω : AO) (d G : Nat) (l0 l1 l2 l4 : Int) (g : Nat) (Θ : Th) (Q : Th → Prop) : Prop := Hid (SJ2 ω yX9_addAll cX9_addAll 5 none d G (fun Sz Θz => (eU Sz (q2U ω Θz Q))) 3 [(2, l0), (2, l1), (1, l2), vN, (0, l4)] [] g Θ)
set_option maxHeartbeats 4000000 in
theorem s2_X9_addAll {ω : AO} {d G : Nat} {l0 l1 l2 : Int} {Θ : Th} {Q : Th → Prop} (hB : W2_X9_addAll_3 ω d G l0 l1 l2 0 (0) Θ Q) : w2_X9_addAll ω d G l0 l1 l2 Θ Q := sorry
set_option maxHeartbeats 4000000 in
theorem s2_X9_addAll_3 {ω : AO} {d G : Nat} {l0 l1 l2 l4 : Int} {g : Nat} {Θ : Th} {Q : Th → Prop} (hB : (kd Θ l1 = 23) ∧ ∀ (v6 : Int) (e6 : v6 = len (vv Θ l1)) (r6 : -2147483648 ≤ v6 ∧ v6 < 2147483648), (-2147483648 ≤ l4 ∧ l4 < 2147483648) ∧ (∀ (c9 : v6 ≤ l4), (g ≤ G) ∧ Q Θ) ∧ (∀ (c9 : l4 < v6), (0 ≤ l4 ∧ l4 < len (vv Θ l1)) ∧ ∀ (v19 : Int) (e19 : v19 = gt (vv Θ l1) l4) (r19 : -9223372036854775808 ≤ v19 ∧ v19 < 9223372036854775808), (1 ≤ d) ∧ (kd Θ l0 = 23) ∧ (¬ fz Θ l0) ∧ (rwC (cp Θ l0) (len (vv Θ l0)) ≤ 60000000) ∧ (-9223372036854775808 ≤ (v19 + l2) ∧ (v19 + l2) < 9223372036854775808) ∧ (3 ≤ d) ∧ (g + (rwK (cp Θ l0) (len (vv Θ l0))).toNat ≤ G) ∧ ∀ (Θ22 : Th) (t22 : Θ22 = uq Θ l0 (23, vv Θ l0 ++ [(v19 + l2)], rwC (cp Θ l0) (len (vv Θ l0)), cx Θ l0)), W2_X9_addAll_3 ω d G l0 l1 l2 ((l4 + 1)) (g + (rwK (cp Θ l0) (len (vv Θ l0))).toNat) Θ22 Q)) : W2_X9_addAll_3 ω d G l0 l1 l2 l4 g Θ Q := sorry
def W2_X48_init_28 (ω : AO) (d G : Nat) (l0 l1 l2 : Int) (g : Nat) (Θ : Th) (Q : Th → Prop) : Prop := Hid (SJ2 ω yX48_init cX48_init 3 none d G (fun Sz Θz => (eU Sz (q2U ω Θz Q))) 28 [(2, l0), (2, l1), (0, l2)] [] g Θ)
set_option maxHeartbeats 4000000 in
theorem s2_X48_init {ω : AO} {d G : Nat} {l0 l1 : Int} {Θ : Th} {Q : Th → Prop} (hB : (1 ≤ d) ∧ (0 ≤ l0) ∧ (0 + 1 ≤ G) ∧ ∀ (v5 : Int) (Θ5 : Th) (u5 : nt Θ ≤ v5 ∧ 0 ≤ v5) (b5 : Bl Θ) (t5 : Θ5 = nu Θ v5 (203, [], 0, 0)), (4 ≤ d) ∧ ∀ (k9 : Int) (Θ9 : Th) (t9 : Θ9 = uq Θ5 v5 (3, [], 0, k9)), (kd Θ9 l0 = 53) ∧ (¬ fz Θ9 l0) ∧ ∀ (Θ12 : Th) (t12 : Θ12 = pf Θ9 l0 0 v5), (0 + 1 + 1 ≤ G) ∧ ∀ (v16 : Int) (Θ16 : Th) (u16 : nt Θ12 ≤ v16 ∧ 0 ≤ v16) (b16 : Bl Θ12) (t16 : Θ16 = nu Θ12 v16 (203, [], 0, 0)), ∀ (k20 : Int) (Θ20 : Th) (t20 : Θ20 = uq Θ16 v16 (3, [], 0, k20)), (¬ fz Θ20 l0) ∧ ∀ (Θ23 : Th) (t23 : Θ23 = pf Θ20 l0 1 v16), W2_X48_init_28 ω d G l0 l1 0 (0 + 1 + 1) Θ23 Q) : w2_X48_init ω d G l0 l1 Θ Q := sorry
set_option maxHeartbeats 4000000 in
theorem s2_X48_init_28 {ω : AO} {d G : Nat} {l0 l1 l2 : Int} {g : Nat} {Θ : Th} {Q : Th → Prop} (hB : (1 ≤ d) ∧ (kd Θ l1 = 30) ∧ ∃ G30 : Nat, (g + G30 ≤ G) ∧ w2_X17_size ω (d - 1) G30 l1 Θ (fun x30 Θ30 => ∀ (L30 : Le Θ Θ30) (r30 : -2147483648 ≤ x30 ∧ x30 < 2147483648), (-2147483648 ≤ l2 ∧ l2 < 2147483648) ∧ (∀ (c33 : x30 ≤ l2), (g + G30 ≤ G) ∧ Q Θ30) ∧ (∀ (c33 : l2 < x30), (kd Θ30 l0 = 53) ∧ ∀ (v37 : Int) (e37 : v37 = gt (vv Θ30 l0) 0) (r37 : -1 ≤ v37), ∃ G42 : Nat, (g + G30 + G42 ≤ G) ∧ w2_X17_keyAt ω (d - 1) G42 l1 l2 Θ30 (fun x42 Θ42 => ∀ (L42 : Le Θ30 Θ42) (r42 : -1 ≤ x42), (kd Θ42 v37 = 3) ∧ (¬ fz Θ42 v37) ∧ (rf Θ42 x42) ∧ (adC (cp Θ42 v37) (len (vv Θ42 v37)) ≤ 60000000) ∧ (7 ≤ d) ∧ (g + G30 + G42 + (adC (cp Θ42 v37) (len (vv Θ42 v37)) - cp Θ42 v37).toNat ≤ G) ∧ ∀ (k45 : Int) (Θ45 : Th) (t45 : Θ45 = uq Θ42 v37 (3, vv Θ42 v37 ++ [x42], adC (cp Θ42 v37) (len (vv Θ42 v37)), k45)), ∀ (v50 : Int) (e50 : v50 = gt (vv Θ45 l0) 1) (r50 : -1 ≤ v50), ∃ G55 : Nat, (g + G30 + G42 + (adC (cp Θ42 v37) (len (vv Θ42 v37)) - cp Θ42 v37).toNat + G55 ≤ G) ∧ w2_X17_valueAt ω (d - 1) G55 l1 l2 Θ45 (fun x55 Θ55 => ∀ (L55 : Le Θ45 Θ55) (r55 : -1 ≤ x55), (x55 < 0 ∨ kd Θ55 x55 ∈ [23]) ∧ (kd Θ55 v50 = 3) ∧ (¬ fz Θ55 v50) ∧ (rf Θ55 x55) ∧ (adC (cp Θ55 v50) (len (vv Θ55 v50)) ≤ 60000000) ∧ (g + G30 + G42 + (adC (cp Θ42 v37) (len (vv Θ42 v37)) - cp Θ42 v37).toNat + G55 + (adC (cp Θ55 v50) (len (vv Θ55 v50)) - cp Θ55 v50).toNat ≤ G) ∧ ∀ (k61 : Int) (Θ61 : Th) (t61 : Θ61 = uq Θ55 v50 (3, vv Θ55 v50 ++ [x55], adC (cp Θ55 v50) (len (vv Θ55 v50)), k61)), W2_X48_init_28 ω d G l0 l1 ((l2 + 1)) (g + G30 + G42 + (adC (cp Θ42 v37) (len (vv Θ42 v37)) - cp Θ42 v37).toNat + G55 + (adC (cp Θ55 v50) (len (vv Θ55 v50)) - cp Θ55 v50).toNat) Θ61 Q))))) : W2_X48_init_28 ω d G l0 l1 l2 g Θ Q := sorry
/-! 75.ab.lean.txt -/
/-! rows of texts in order -/
set_option maxRecDepth 100000
theorem cmpL_neg : ∀ (x y : List Int), cmpL y x = - cmpL x y := sorry
theorem cmpL_eq : ∀ (x y : List Int), cmpL x y = 0 ↔ x = y := sorry
theorem cmpL_tr : ∀ (x y z : List Int), cmpL x y < 0 → cmpL y z < 0 → cmpL x z < 0 := sorry
/-- texts in order, each once -/
def SrtK (ks : List (List Int)) : Prop := ks.Pairwise (fun x y => cmpL x y < 0)
/-- how many are ahead of a word -/
def lbK (ks : List (List Int)) (w : List Int) : Nat := (ks.takeWhile (fun x => decide (cmpL x w < 0))).length
theorem lbK_le {ks : List (List Int)} {w : List Int} : lbK ks w ≤ ks.length := sorry
theorem lbK_iff {w : List Int} : ∀ (ks : List (List Int)), SrtK ks → ∀ (i : Nat) (x : List Int), ks[i]? = some x → (i < lbK ks w ↔ cmpL x w < 0) := sorry
/-- whether a word is there -/
def isK (ks : List (List Int)) (w : List Int) : Bool := decide (ks[lbK ks w]? = some w)
def insK (ks : List (List Int)) (w : List Int) : List (List Int) := ks.take (lbK ks w) ++ w :: ks.drop (lbK ks w)
def delK (ks : List (List Int)) (w : List Int) : List (List Int) := ks.take (lbK ks w) ++ ks.drop (lbK ks w + 1)
theorem srt_ins {ks : List (List Int)} {w : List Int} (h : SrtK ks) (hn : isK ks w = false) : SrtK (insK ks w) := sorry
theorem srt_del {ks : List (List Int)} {w : List Int} (h : SrtK ks) : SrtK (delK ks w) := sorry
/-- texts by values -/
def SoO (Θ : Th) (a p q : Int) (ks : List (List Int)) (vs : List Int) (c1 c2 : Int) : Prop :=
  ∃ rs e1 e2, xo Θ a = (30, [p, q], 0, 0) ∧ ¬ fz Θ a ∧ xo Θ p = (3, rs, c1, e1) ∧ ¬ fz Θ p ∧ all2 (Str Θ) rs ks ∧ xo Θ q = (3, vs, c2, e2) ∧ ¬ fz Θ q ∧ vs.length = ks.length ∧ SrtK ks ∧ p ≠ q ∧ (c1 = 0 ∨ 10 ≤ c1) ∧ (ks.length : Int) ≤ c1 ∧ (c2 = 0 ∨ 10 ≤ c2) ∧ (ks.length : Int) ≤ c2
abbrev exS (p q : Int) : Int → Prop := fun z => z = p ∨ z = q
section SRT
variable {ω : AO} {d G : Nat} {Θ Θ1 : Th} {a b p q k x c e c1 c2 : Int} {w rs vs : List Int} {ks : List (List Int)}
theorem SoO.hk (h : SoO Θ a p q ks vs c1 c2) : (∀ z, exS p q z → 0 < kd Θ z ∧ kd Θ z < 200) ∧ kd Θ a = 30 ∧ kd Θ p = 3 ∧ kd Θ q = 3 ∧ a ≠ p ∧ a ≠ q := sorry
theorem SoO.keep {ex : Int → Prop} (h : SoO Θ a p q ks vs c1 c2) (hg : GrX ex Θ Θ1) (x1 : ¬ ex a) (x2 : ¬ ex p) (x3 : ¬ ex q) : SoO Θ1 a p q ks vs c1 c2 := sorry
theorem u_X1_findIn {Q : Int → Th → Prop} (hd : 6 ≤ d) (h : xo Θ a = (3, rs, c, e)) (hk : all2 (Str Θ) rs ks) (hw : Str Θ b w) (hs : SrtK ks) (hl : len rs ≤ 1000000) (hQ : Q (lbK ks w : Int) Θ) : w2_X1_findIn ω d G a b Θ Q := sorry
theorem u_X17_isAt {Q : Int → Th → Prop} (hd : 3 ≤ d) (h : SoO Θ a p q ks vs c1 c2) (hw : Str Θ b w) (hk : 0 ≤ k) (hl : ks.length ≤ 1000000) (hk2 : k ≤ 2000000) (hQ : ∀ z, z = (if ks[k.toNat]? = some w then 1 else 0) → Q z Θ) : w2_X17_isAt ω d G a k b Θ Q := sorry
theorem u_X17_size {Q : Int → Th → Prop} (hd : 1 ≤ d) (h : SoO Θ a p q ks vs c1 c2) (hQ : Q (ks.length : Int) Θ) : w2_X17_size ω d G a Θ Q := sorry
theorem u_X17_isEmpty {Q : Int → Th → Prop} (hd : 1 ≤ d) (h : SoO Θ a p q ks vs c1 c2) (hQ : ∀ z, z = (if ks = [] then 1 else 0) → Q z Θ) : w2_X17_isEmpty ω d G a Θ Q := sorry
theorem u_X17_keyAt {Q : Int → Th → Prop} (hd : 3 ≤ d) (h : SoO Θ a p q ks vs c1 c2) (hk : 0 ≤ k ∧ k < (ks.length : Int)) (hQ : ∀ r x, ks[k.toNat]? = some x → Str Θ r x → Q r Θ) : w2_X17_keyAt ω d G a k Θ Q := sorry
theorem u_X17_valueAt {Q : Int → Th → Prop} (hd : 3 ≤ d) (h : SoO Θ a p q ks vs c1 c2) (hk : 0 ≤ k ∧ k < (ks.length : Int)) (hQ : -1 ≤ gt vs k → Q (gt vs k) Θ) : w2_X17_valueAt ω d G a k Θ Q := sorry
theorem u_X17_containsKey {Q : Int → Th → Prop} (hd : 7 ≤ d) (h : SoO Θ a p q ks vs c1 c2) (hw : Str Θ b w) (hl : ks.length ≤ 1000000) (hQ : ∀ z, z = (if isK ks w = true then 1 else 0) → Q z Θ) : w2_X17_containsKey ω d G a b Θ Q := sorry
theorem u_X17_get {Q : Int → Th → Prop} (hd : 7 ≤ d) (h : SoO Θ a p q ks vs c1 c2) (hw : Str Θ b w) (hl : ks.length ≤ 1000000) (hQ : ∀ z, z = (if isK ks w = true then gt vs (lbK ks w) else -1) → -1 ≤ z → Q z Θ) : w2_X17_get ω d G a b Θ Q := sorry
theorem all2_ins {P : Int → List Int → Prop} {n : Nat} (h : all2 P rs ks) (hb : P b w) : all2 P (rs.take n ++ b :: rs.drop n) (ks.take n ++ w :: ks.drop n) := sorry
theorem u_X17_put {Q : Int → Th → Prop} (hd : 8 ≤ d) (h : SoO Θ a p q ks vs c1 c2) (hw : Str Θ b w) (hv : rf Θ x) (hl : ks.length ≤ 1000000) (hc : adC c1 (ks.length : Int) ≤ 60000000 ∧ adC c2 (ks.length : Int) ≤ 60000000) (hG : isK ks w = false → adC c1 (ks.length : Int) - c1 + (adC c2 (ks.length : Int) - c2) ≤ (G : Int))
    (hQ1 : isK ks w = true → ∀ Θ', GrX (exS p q) Θ Θ' → SoO Θ' a p q ks (vs.set (lbK ks w) x) c1 c2 → -1 ≤ gt vs (lbK ks w) → Q (gt vs (lbK ks w)) Θ')
    (hQ0 : isK ks w = false → ∀ Θ', GrX (exS p q) Θ Θ' → SoO Θ' a p q (insK ks w) (ins vs (lbK ks w) x) (adC c1 (ks.length : Int)) (adC c2 (ks.length : Int)) → Q (-1) Θ') : w2_X17_put ω d G a b x Θ Q := sorry
theorem u_X17_remove {Q : Int → Th → Prop} (hd : 7 ≤ d) (h : SoO Θ a p q ks vs c1 c2) (hw : Str Θ b w) (hl : ks.length ≤ 1000000)
    (hQ1 : isK ks w = true → ∀ Θ', GrX (exS p q) Θ Θ' → SoO Θ' a p q (delK ks w) (del vs (lbK ks w)) c1 c2 → -1 ≤ gt vs (lbK ks w) → Q (gt vs (lbK ks w)) Θ')
    (hQ0 : isK ks w = false → Q (-1) Θ) : w2_X17_remove ω d G a b Θ Q := sorry
theorem u_X17_clear {Q : Th → Prop} (hd : 2 ≤ d) (h : SoO Θ a p q ks vs c1 c2) (hQ : ∀ Θ', GrX (exS p q) Θ Θ' → SoO Θ' a p q [] [] c1 c2 → Q Θ') : w2_X17_clear ω d G a Θ Q := sorry
theorem u_X17_init {Q : Th → Prop} (hd : 4 ≤ d) (h : xo Θ a = (30, [-1, -1], 0, 0)) (hf : ¬ fz Θ a) (hG : 2 ≤ G) (hQ : ∀ p q Θ', GrX (· = a) Θ Θ' → kd Θ p = 0 → kd Θ q = 0 → SoO Θ' a p q [] [] 0 0 → Q Θ') : w2_X17_init ω d G a Θ Q := sorry
end SRT

/-! 75.ac.lean.txt -/
/-! Hits: enter, has, addAll; Words -/
set_option maxRecDepth 100000
/-- where a number comes in -/
def enP (l : List Int) (x : Int) : Int := bscn (fun c => decide (x < c)) l 0 (len l)
/-- a row in order takes a number, if it has it not -/
def enF (l : List Int) (x : Int) : List Int := if 0 < enP l x ∧ gt l (enP l x - 1) = x then l else ins l (enP l x) x
theorem ushr1 {x : Int} (h : 0 ≤ x ∧ x < 2147483648) : ushrI x 1 = x / 2 := sorry
section HIT
variable {ω : AO} {d G : Nat} {S S' S1 S2 : AS} {a c k x v lo hi : Int} {l m : List Int} {t et : Nat}
theorem RowS.put (h : RowS ω S t et a l c) (hte : 0 < t ∧ 0 < et ∧ t ≠ et) (hk : 0 ≤ k ∧ k < len l) (e : S2 = wr S (ct S a 0) k x) : RowS ω S2 t et a (l.set k.toNat x) c ∧ BKp ω S S2 a := sorry
theorem t_X9_enter {QV : AS → Prop} (hd : 3 ≤ d) (h : RowS ω S 23 105 a l c) (w : bel S) (hx : inL x) (hb : bo ω ≤ nx S) (hc : rwC c (len l) ≤ 60000000 ∧ c ≤ 60000000) (hG : ¬ (0 < enP l x ∧ gt l (enP l x - 1) = x) → rwK c (len l) ≤ (G : Int)) (hQ1 : 0 < enP l x ∧ gt l (enP l x - 1) = x → QV S) (hQ2 : ¬ (0 < enP l x ∧ gt l (enP l x - 1) = x) → ∀ S', RowS ω S' 23 105 a (ins l (enP l x) x) (rwC c (len l)) → BKp ω S S' a → QV S') : w_X9_enter ω d G a x S QV := sorry
/-- numbers in order, each once -/
def StL (l : List Int) : Prop := ∀ i j, 0 ≤ i → i < j → j < len l → gt l i < gt l j
theorem t_J11_bs {Q : Int → AS → Prop} (hd : 1 ≤ d) (ht : tg S v = 105) (hln : len l ≤ ln S v) (hlm : len l ≤ 60000000) (hc : ∀ k, 0 ≤ k → k < len l → ct S v k = gt l k) (hx : inL x) (hs : StL l) (hr : ln S v < 2147483648) (hQ1 : ∀ k, 0 ≤ k → k < len l → gt l k = x → Q k S) (hQ0 : (∀ k, 0 ≤ k → k < len l → gt l k ≠ x) → ∀ k, k < 0 → Q k S) : w_J11_binarySearch ω d G v 0 (len l) x S Q := sorry
theorem t_X9_has {Q : Int → AS → Prop} (hd : 2 ≤ d) (ht : tg S a = 23) (h : RowC ω S 105 a l c) (hlm : c ≤ 60000000) (hx : inL x) (hs : StL l) (hQ : ∀ z, z = (if l.contains x = true then 1 else 0) → Q z S) : w_X9_has ω d G a x S Q := sorry
end HIT
section HI2
variable {ω : AO} {d G : Nat} {Θ Θ1 : Th} {a b k x y c e p q : Int} {l m vs : List Int} {ks : List (List Int)}
theorem u_X9_enter {Q : Th → Prop} (hd : 3 ≤ d) (h : xo Θ a = (23, l, c, e)) (hf : ¬ fz Θ a) (hx : inL x) (hc : rwC c (len l) ≤ 60000000 ∧ c ≤ 60000000) (hG : ¬ (0 < enP l x ∧ gt l (enP l x - 1) = x) → rwK c (len l) ≤ (G : Int)) (hQ1 : 0 < enP l x ∧ gt l (enP l x - 1) = x → Q Θ) (hQ2 : ¬ (0 < enP l x ∧ gt l (enP l x - 1) = x) → ∀ Θ', Θ' = uq Θ a (23, ins l (enP l x) x, rwC c (len l), e) → Q Θ') : w2_X9_enter ω d G a x Θ Q := sorry
theorem u_X9_has {Q : Int → Th → Prop} (hd : 2 ≤ d) (h : xo Θ a = (23, l, c, e)) (hlm : c ≤ 60000000) (hx : inL x) (hs : StL l) (hQ : ∀ z, z = (if l.contains x = true then 1 else 0) → Q z Θ) : w2_X9_has ω d G a x Θ Q := sorry
theorem rwN_in {n : Int} (h : 8 ≤ c ∧ 0 ≤ n ∧ n ≤ c) : ∀ k : Nat, c ≤ rwN c n k ∧ n + (k : Int) ≤ rwN c n k ∧ rwN c n k ≤ max c (2 * (n + (k : Int))) := sorry
theorem u_X9_addAll {Q : Th → Prop} (hd : 3 ≤ d) (h : xo Θ a = (23, l, c, e)) (hf : ¬ fz Θ a) (h2 : xo Θ b = (23, m, x, y)) (hne : b ≠ a) (hc : 8 ≤ c ∧ len l ≤ c ∧ c ≤ 2000000) (hm : ∀ i, 0 ≤ i → i < len m → inL (gt m i + k)) (hlen : len l + len m ≤ 1000000) (hG : rwN c (len l) m.length - c ≤ (G : Int)) (hQ : ∀ Θ', GrX (· = a) Θ Θ' → xo Θ' a = (23, l ++ m.map (· + k), rwN c (len l) m.length, e) → ¬ fz Θ' a → Q Θ') : w2_X9_addAll ω d G a b k Θ Q := sorry
-- words
theorem u_X48_init {Q : Th → Prop} {r c1 c2 : Int} (hd : 8 ≤ d) (h : xo Θ r = (53, [-1, -1], 0, 0)) (hf : ¬ fz Θ r) (hS : SoO Θ b p q ks vs c1 c2) (hv : ∀ i, 0 ≤ i → i < len vs → kd Θ (gt vs i) = 23) (hl : ks.length ≤ 1000000) (hG : 2 + 2 * cpZ ks.length ≤ (G : Int))
    (hQ : ∀ p' q' rs d1 e1 d2 e2 Θ2, GrX (· = r) Θ Θ2 → xo Θ2 r = (53, [p', q'], 0, 0) → ¬ fz Θ2 r → kd Θ p' = 0 → kd Θ q' = 0 → xo Θ2 p' = (3, rs, d1, e1) → ¬ fz Θ2 p' → all2 (Str Θ2) rs ks → xo Θ2 q' = (3, vs, d2, e2) → ¬ fz Θ2 q' → Q Θ2) : w2_X48_init ω d G r b Θ Q := sorry
end HI2

/-! 76.aa.lean.txt -/
/-! segments -/
set_option maxRecDepth 100000
def w2_X6_of (ω : AO) (d G : Nat) (l0 : Int) (Θ : Th) (Q : Int → Th → Prop) : Prop := Hid (∀ S, bel S → R2 ω S Θ → Ctr ω yX6_of cX6_of 3 (some (.object "MailWorks$Text")) d G [(2, l0)] S (eA S (q2 ω Θ Q)))
def w2_X2_init (ω : AO) (d G : Nat) (l0 : Int) (Θ : Th) (Q : Th → Prop) : Prop := Hid (∀ S, bel S → R2 ω S Θ → Ctr ω yX2_init cX2_init 1 none d G [(2, l0)] S (eU S (q2U ω Θ Q)))
def w2_X2_encoded (ω : AO) (d G : Nat) (l0 l1 : Int) (Θ : Th) (Q : Int → Th → Prop) : Prop := Hid (∀ S, bel S → R2 ω S Θ → Ctr ω yX2_encoded cX2_encoded 2 (some (.object "MailWorks$Text")) d G [(2, l0), (2, l1)] S (eA S (q2 ω Θ Q)))
def w2_X2_plain (ω : AO) (d G : Nat) (l0 l1 : Int) (Θ : Th) (Q : Int → Th → Prop) : Prop := Hid (∀ S, bel S → R2 ω S Θ → Ctr ω yX2_plain cX2_plain 3 (some (.object "MailWorks$Text")) d G [(2, l0), (2, l1)] S (eA S (q2 ω Θ Q)))
def w2_X2_query (ω : AO) (d G : Nat) (l0 l1 : Int) (Θ : Th) (Q : Int → Th → Prop) : Prop := Hid (∀ S, bel S → R2 ω S Θ → Ctr ω yX2_query cX2_query 3 (some (.object "MailWorks$Text")) d G [(2, l0), (2, l1)] S (eA S (q2 ω Θ Q)))
def w2_X19_smallOf (ω : AO) (d G : Nat) (l0 : Int) (Θ : Th) (Q : Int → Th → Prop) : Prop := Hid (∀ S, bel S → R2 ω S Θ → Ctr ω yX19_smallOf cX19_smallOf 3 (some (.object "java/lang/String")) d G [(2, l0)] S (eA S (q2 ω Θ Q)))
def w2_X19_prefixEnd (ω : AO) (d G : Nat) (l0 l1 : Int) (Θ : Th) (Q : Int → Th → Prop) : Prop := Hid (∀ S, bel S → R2 ω S Θ → Ctr ω yX19_prefixEnd cX19_prefixEnd 5 (some .int) d G [(2, l0), (0, l1)] S (eI S (q2 ω Θ Q)))
def w2_X19_baseOf (ω : AO) (d G : Nat) (l0 : Int) (Θ : Th) (Q : Int → Th → Prop) : Prop := Hid (∀ S, bel S → R2 ω S Θ → Ctr ω yX19_baseOf cX19_baseOf 4 (some (.object "java/lang/String")) d G [(2, l0)] S (eA S (q2 ω Θ Q)))
def w2_X19_identities (ω : AO) (d G : Nat) (l0 : Int) (Θ : Th) (Q : Int → Th → Prop) : Prop := Hid (∀ S, bel S → R2 ω S Θ → Ctr ω yX19_identities cX19_identities 5 (some (.object "java/util/ArrayList")) d G [(2, l0)] S (eA S (q2 ω Θ Q)))
def w2_X19_references (ω : AO) (d G : Nat) (l0 : Int) (Θ : Th) (Q : Int → Th → Prop) : Prop := Hid (∀ S, bel S → R2 ω S Θ → Ctr ω yX19_references cX19_references 2 (some (.object "java/util/ArrayList")) d G [(2, l0)] S (eA S (q2 ω Θ Q)))
def w2_X19_mailboxes (ω : AO) (d G : Nat) (l0 l1 : Int) (Θ : Th) (Q : Int → Th → Prop) : Prop := Hid (∀ S, bel S → R2 ω S Θ → Ctr ω yX19_mailboxes cX19_mailboxes 3 (some (.object "java/util/ArrayList")) d G [(2, l0), (2, l1)] S (eA S (q2 ω Θ Q)))
def w2_X19_textOf (ω : AO) (d G : Nat) (l0 l1 l2 : Int) (Θ : Th) (Q : Int → Th → Prop) : Prop := Hid (∀ S, bel S → R2 ω S Θ → Ctr ω yX19_textOf cX19_textOf 9 (some (.object "MailWorks$Text")) d G [(2, l0), (2, l1), (2, l2)] S (eA S (q2 ω Θ Q)))
def w2_X19_source (ω : AO) (d G : Nat) (l0 l1 : Int) (Θ : Th) (Q : Int → Th → Prop) : Prop := Hid (∀ S, bel S → R2 ω S Θ → Ctr ω yX19_source cX19_source 3 (some (.object "MailWorks$Text")) d G [(2, l0), (2, l1)] S (eA S (q2 ω Θ Q)))
def w2_X19_enter (ω : AO) (d G : Nat) (l0 l1 l2 : Int) (Θ : Th) (Q : Th → Prop) : Prop := Hid (∀ S, bel S → R2 ω S Θ → Ctr ω yX19_enter cX19_enter 4 none d G [(2, l0), (2, l1), (0, l2)] S (eU S (q2U ω Θ Q)))
def w2_X19_wordsOf (ω : AO) (d G : Nat) (l0 : Int) (Θ : Th) (Q : Int → Th → Prop) : Prop := Hid (∀ S, bel S → R2 ω S Θ → Ctr ω yX19_wordsOf cX19_wordsOf 6 (some (.object "MailWorks$Words")) d G [(2, l0)] S (eA S (q2 ω Θ Q)))
def w2_X19_init (ω : AO) (d G : Nat) (l0 l1 l2 : Int) (Θ : Th) (Q : Th → Prop) : Prop := Hid (∀ S, bel S → R2 ω S Θ → Ctr ω yX19_init cX19_init 5 none d G [(2, l0), (2, l1), (2, l2)] S (eU S (q2U ω Θ Q)))
theorem lr_X6_37_19 : FLkR RX6 37 19 1 .int := sorry
theorem lr_X6_40_19 : FLkR RX6 40 19 0 (.array .int) := sorry
theorem lm_X6_45 : VLk RX6 45 20 yX6_add cX6_add 2 none 1 := sorry
theorem ln_X2_11 : NLk RX2 11 yX3_init cX3_init 1 none 0 := sorry
theorem lf_X2_12_16 : FLk RX2 12 16 0 (.object "MailWorks$Charsets") true := sorry
theorem ln_X2_20 : NLk RX2 20 yX4_init cX4_init 1 none 0 := sorry
theorem lf_X2_21_16 : FLk RX2 21 16 1 (.object "MailWorks$Stemme\x72") true := sorry
theorem ln_X2_27 : NLk RX2 27 yX5_init cX5_init 1 none 0 := sorry
theorem lf_X2_28_16 : FLk RX2 28 16 2 (.object "MailWorks$Ints") true := sorry
theorem lf_X2_32_16 : FLk RX2 32 16 3 (.object "MailWorks$Ints") true := sorry
theorem lm_X2_37 : ILk RX2 37 yX6_init cX6_init 1 0 := sorry
theorem lf_X2_38_16 : FLk RX2 38 16 4 (.object "MailWorks$Text") true := sorry
theorem lr_X2_12_16 : FLkR RX2 12 16 0 (.object "MailWorks$Charsets") := sorry
theorem lm_X2_83 : ILk RX2 83 yX30_init cX30_init 3 2 := sorry
theorem lm_X2_86 : VLk RX2 86 43 yX30_read cX30_read 5 (some (.object "MailWorks$Ints")) 0 := sorry
theorem lm_X2_89 : SLk RX2 89 yX6_of cX6_of 3 (some (.object "MailWorks$Text")) 1 := sorry
theorem lm_X2_63 : VLk RX2 63 17 yX3_at cX3_at 2 (some (.object "MailWorks$Charset")) 1 := sorry
theorem lm_X2_93 : SLk RX2 93 yX12_ints cX12_ints 3 (some (.object "MailWorks$Ints")) 1 := sorry
theorem lu_X2_67_44 : ULk RX2 67 44 ⟨"MailWorks$Charset", "read", "(LMailWorks$Ints;LMailWorks$Ints;)V"⟩ yX33_read cX33_read 8 none 2 := sorry
theorem lu_X2_67_45 : ULk RX2 67 45 ⟨"MailWorks$Charset", "read", "(LMailWorks$Ints;LMailWorks$Ints;)V"⟩ yX35_read cX35_read 4 none 2 := sorry
theorem lu_X2_67_67 : ULk RX2 67 67 ⟨"MailWorks$Charset", "read", "(LMailWorks$Ints;LMailWorks$Ints;)V"⟩ yX32_read cX32_read 8 none 2 := sorry
theorem lu_X2_67_69 : ULk RX2 67 69 ⟨"MailWorks$Charset", "read", "(LMailWorks$Ints;LMailWorks$Ints;)V"⟩ yX34_read cX34_read 5 none 2 := sorry
theorem lr_X2_28_16 : FLkR RX2 28 16 2 (.object "MailWorks$Ints") := sorry
theorem lm_X2_42 : VLk RX2 42 19 yX5_clear cX5_clear 1 none 0 := sorry
theorem lr_X2_32_16 : FLkR RX2 32 16 3 (.object "MailWorks$Ints") := sorry
theorem lr_X2_38_16 : FLkR RX2 38 16 4 (.object "MailWorks$Text") := sorry
theorem lg_X2_45_20 : FLkN RX2 45 20 1 .int false := sorry
theorem lm_X2_49 : VLk RX2 49 2 yJ2_length cJ2_length 1 (some .int) 0 := sorry
theorem lm_X2_55 : VLk RX2 55 2 yJ2_charAt cJ2_charAt 2 (some .char) 1 := sorry
theorem lm_X2_59 : VLk RX2 59 19 yX5_add cX5_add 2 none 1 := sorry
theorem lr_X2_73_19 : FLkR RX2 73 19 1 .int := sorry
theorem lr_X2_74_19 : FLkR RX2 74 19 0 (.array .int) := sorry
theorem lm_X2_80 : VLk RX2 80 20 yX6_add cX6_add 2 none 1 := sorry
theorem lm_X19_199 : ILk RX19 199 yJ1_init cJ1_init 1 0 := sorry
theorem lg_X19_381_20 : FLkN RX19 381 20 1 .int false := sorry
theorem lm_X19_218 : VLk RX19 218 1 yJ1_toString cJ1_toString 1 (some (.object "java/lang/String")) 0 := sorry
theorem lm_X19_385 : VLk RX19 385 20 yX6_at cX6_at 2 (some .int) 1 := sorry
theorem lm_X19_387 : SLk RX19 387 yX44_small cX44_small 1 (some .int) 1 := sorry
theorem lm_X19_391 : VLk RX19 391 1 yJ1_append cJ1_append 2 (some (.object "java/lang/StringBuilde\x72")) 1 := sorry
theorem lm_X19_411 : VLk RX19 411 2 yJ2_startsWith cJ2_startsWith 8 (some .boolean) 2 := sorry
theorem lm_X19_378 : VLk RX19 378 2 yJ2_length cJ2_length 1 (some .int) 0 := sorry
theorem lm_X19_398 : VLk RX19 398 2 yJ2_charAt cJ2_charAt 2 (some .char) 1 := sorry
theorem lm_X19_421 : SLk RX19 421 yX12_isDigit cX12_isDigit 1 (some .boolean) 1 := sorry
theorem lm_X19_173 : SLk RX19 173 yX12_trim cX12_trim 3 (some (.object "java/lang/String")) 1 := sorry
theorem lm_X19_394 : SLk RX19 394 yX19_prefixEnd cX19_prefixEnd 5 (some .int) 2 := sorry
theorem lm_X19_406 : VLk RX19 406 2 yJ2_substring_2 cJ2_substring_2 2 (some (.object "java/lang/String")) 1 := sorry
theorem lm_X19_402 : SLk RX19 402 yX12_isBlank cX12_isBlank 1 (some .boolean) 1 := sorry
theorem lm_X19_11 : ILk RX19 11 yJ7_init cJ7_init 1 0 := sorry
theorem lm_X19_367 : VLk RX19 367 2 yJ2_indexOf_3 cJ2_indexOf_3 2 (some .int) 1 := sorry
theorem lm_X19_371 : VLk RX19 371 2 yJ2_indexOf_2 cJ2_indexOf_2 3 (some .int) 2 := sorry
theorem lm_X19_374 : VLk RX19 374 2 yJ2_substring cJ2_substring 5 (some (.object "java/lang/String")) 2 := sorry
theorem lm_X19_150 : VLk RX19 150 2 yJ2_isEmpty cJ2_isEmpty 1 (some .boolean) 0 := sorry
theorem lm_X19_112 : VLk RX19 112 3 yJ7_add cJ7_add 2 (some .boolean) 1 := sorry
theorem lr_X19_29_32 : FLkR RX19 29 32 0 (.object "MailWorks$Parts") := sorry
theorem lm_X19_53 : VLk RX19 53 33 yX20_value cX20_value 3 (some (.object "java/lang/String")) 1 := sorry
theorem lm_X19_358 : SLk RX19 358 yX19_identities cX19_identities 5 (some (.object "java/util/ArrayList")) 1 := sorry
theorem lm_X19_361 : VLk RX19 361 3 yJ7_isEmpty cJ7_isEmpty 1 (some .boolean) 0 := sorry
theorem lm_X19_191 : VLk RX19 191 3 yJ7_size cJ7_size 1 (some .int) 0 := sorry
theorem lm_X19_364 : VLk RX19 364 3 yJ7_remove_2 cJ7_remove_2 4 (some (.object "java/lang/Object")) 1 := sorry
theorem ln_X19_253 : NLk RX19 253 yX26_init cX26_init 1 none 0 := sorry
theorem lm_X19_256 : ILk RX19 256 yX27_init cX27_init 2 1 := sorry
theorem lm_X19_257 : VLk RX19 257 40 yX27_all cX27_all 3 (some (.object "java/util/ArrayList")) 0 := sorry
theorem lm_X19_260 : VLk RX19 260 39 yX26_read cX26_read 4 none 1 := sorry
theorem lr_X19_262_39 : FLkR RX19 262 39 0 (.object "java/util/ArrayList") := sorry
theorem lm_X19_312 : VLk RX19 312 33 yX20_body cX20_body 4 (some (.object "java/lang/String")) 1 := sorry
theorem lm_X19_303 : SLk RX19 303 yX12_ints cX12_ints 3 (some (.object "MailWorks$Ints")) 1 := sorry
theorem lr_X19_316_35 : FLkR RX19 316 35 10 (.object "java/lang/String") := sorry
theorem lm_X19_319 : VLk RX19 319 16 yX2_coding cX2_coding 4 (some (.object "MailWorks$Coding")) 1 := sorry
theorem ln_X19_322 : NLk RX19 322 yX5_init cX5_init 1 none 0 := sorry
theorem lu_X19_323_48 : ULk RX19 323 48 ⟨"MailWorks$Coding", "read", "(LMailWorks$Ints;LMailWorks$Ints;)V"⟩ yX40_read cX40_read 7 none 2 := sorry
theorem lu_X19_323_66 : ULk RX19 323 66 ⟨"MailWorks$Coding", "read", "(LMailWorks$Ints;LMailWorks$Ints;)V"⟩ yX38_read cX38_read 7 none 2 := sorry
theorem lu_X19_323_68 : ULk RX19 323 68 ⟨"MailWorks$Coding", "read", "(LMailWorks$Ints;LMailWorks$Ints;)V"⟩ yX40_read cX40_read 7 none 2 := sorry
theorem lr_X19_326_35 : FLkR RX19 326 35 12 (.object "MailWorks$Value") := sorry
theorem lm_X19_332 : VLk RX19 332 37 yX24_find cX24_find 3 (some (.object "java/lang/String")) 1 := sorry
theorem lm_X19_337 : SLk RX19 337 yX12_small cX12_small 3 (some (.object "java/lang/String")) 1 := sorry
theorem lm_X19_340 : SLk RX19 340 yX3_named cX3_named 3 (some .int) 1 := sorry
theorem lr_X19_269_16 : FLkR RX19 269 16 0 (.object "MailWorks$Charsets") := sorry
theorem lm_X19_297 : VLk RX19 297 17 yX3_at cX3_at 2 (some (.object "MailWorks$Charset")) 1 := sorry
theorem lu_X19_307_44 : ULk RX19 307 44 ⟨"MailWorks$Charset", "read", "(LMailWorks$Ints;LMailWorks$Ints;)V"⟩ yX33_read cX33_read 8 none 2 := sorry
theorem lu_X19_307_45 : ULk RX19 307 45 ⟨"MailWorks$Charset", "read", "(LMailWorks$Ints;LMailWorks$Ints;)V"⟩ yX35_read cX35_read 4 none 2 := sorry
theorem lu_X19_307_67 : ULk RX19 307 67 ⟨"MailWorks$Charset", "read", "(LMailWorks$Ints;LMailWorks$Ints;)V"⟩ yX32_read cX32_read 8 none 2 := sorry
theorem lu_X19_307_69 : ULk RX19 307 69 ⟨"MailWorks$Charset", "read", "(LMailWorks$Ints;LMailWorks$Ints;)V"⟩ yX34_read cX34_read 5 none 2 := sorry
theorem lm_X19_279 : SLk RX19 279 yX6_of cX6_of 3 (some (.object "MailWorks$Text")) 1 := sorry
theorem lr_X19_344_35 : FLkR RX19 344 35 9 (.object "java/lang/String") := sorry
theorem lm_X19_178 : VLk RX19 178 2 yJ2_equals cJ2_equals 3 (some .boolean) 1 := sorry
theorem lm_X19_351 : ILk RX19 351 yX43_init cX43_init 2 1 := sorry
theorem lm_X19_354 : VLk RX19 354 49 yX43_read cX43_read 2 (some (.object "MailWorks$Text")) 0 := sorry
theorem lr_X19_266_42 : FLkR RX19 266 42 0 (.object "java/lang/String") := sorry
theorem lm_X19_273 : ILk RX19 273 yX30_init cX30_init 3 2 := sorry
theorem lm_X19_276 : VLk RX19 276 43 yX30_read cX30_read 5 (some (.object "MailWorks$Ints")) 0 := sorry
theorem lf_X19_283_42 : FLk RX19 283 42 3 (.object "MailWorks$Text") false := sorry
theorem lm_X19_286 : VLk RX19 286 42 yX29_address cX29_address 1 (some (.object "java/lang/String")) 0 := sorry
theorem lm_X19_145 : VLk RX19 145 16 yX2_plain cX2_plain 3 (some (.object "MailWorks$Text")) 1 := sorry
theorem lf_X19_289_42 : FLk RX19 289 42 4 (.object "MailWorks$Text") false := sorry
theorem lm_X19_292 : VLk RX19 292 19 yX5_add cX5_add 2 none 1 := sorry
theorem lm_X19_238 : VLk RX19 238 30 yX17_get cX17_get 3 (some (.object "java/lang/Object")) 1 := sorry
theorem ln_X19_243 : NLk RX19 243 yX9_init cX9_init 1 none 0 := sorry
theorem lm_X19_244 : VLk RX19 244 30 yX17_put cX17_put 4 (some (.object "java/lang/Object")) 2 := sorry
theorem lm_X19_248 : VLk RX19 248 23 yX9_enter cX9_enter 5 none 1 := sorry
theorem ln_X19_187 : NLk RX19 187 yX17_init cX17_init 1 none 0 := sorry
theorem lm_X19_235 : ILk RX19 235 yX48_init cX48_init 3 1 := sorry
theorem lm_X19_127 : VLk RX19 127 3 yJ7_get cJ7_get 2 (some (.object "java/lang/Object")) 1 := sorry
theorem lr_X19_188_50 : FLkR RX19 188 50 0 (.object "java/util/ArrayList") := sorry
theorem lm_X19_200 : VLk RX19 200 51 yX46_isAddress cX46_isAddress 1 (some .boolean) 0 := sorry
theorem lm_X19_207 : VLk RX19 207 1 yJ1_append_3 cJ1_append_3 2 (some (.object "java/lang/StringBuilde\x72")) 1 := sorry
theorem lm_X19_211 : VLk RX19 211 1 yJ1_append_2 cJ1_append_2 2 (some (.object "java/lang/StringBuilde\x72")) 1 := sorry
theorem lm_X19_214 : VLk RX19 214 51 yX46_text cX46_text 1 (some (.object "java/lang/String")) 0 := sorry
theorem lm_X19_221 : VLk RX19 221 51 yX46_place cX46_place 1 (some .int) 0 := sorry
theorem lm_X19_224 : SLk RX19 224 yX19_enter cX19_enter 4 none 3 := sorry
theorem lm_X19_230 : VLk RX19 230 51 yX46_stem cX46_stem 1 (some (.object "java/lang/String")) 0 := sorry
theorem lf_X19_12_32 : FLk RX19 12 32 3 (.object "java/util/ArrayList") true := sorry
theorem lf_X19_18_32 : FLk RX19 18 32 4 (.object "java/util/ArrayList") true := sorry
theorem lf_X19_21_32 : FLk RX19 21 32 6 (.object "java/util/ArrayList") true := sorry
theorem lm_X19_26 : ILk RX19 26 yX20_init cX20_init 4 1 := sorry
theorem lf_X19_29_32 : FLk RX19 29 32 0 (.object "MailWorks$Parts") true := sorry
theorem lm_X19_35 : VLk RX19 35 32 yX19_mailboxes cX19_mailboxes 3 (some (.object "java/util/ArrayList")) 1 := sorry
theorem lf_X19_39_32 : FLk RX19 39 32 1 (.object "java/util/ArrayList") true := sorry
theorem lf_X19_43_32 : FLk RX19 43 32 2 (.object "java/util/ArrayList") true := sorry
theorem lr_X19_43_32 : FLkR RX19 43 32 2 (.object "java/util/ArrayList") := sorry
theorem lm_X19_47 : VLk RX19 47 3 yJ7_addAll cJ7_addAll 6 (some .boolean) 1 := sorry
theorem lm_X19_57 : VLk RX19 57 16 yX2_encoded cX2_encoded 2 (some (.object "MailWorks$Text")) 1 := sorry
theorem lf_X19_63_32 : FLk RX19 63 32 7 (.object "MailWorks$Text") true := sorry
theorem ln_X19_70 : NLk RX19 70 yX1_withoutComments cX1_withoutComments 4 (some (.object "java/util/ArrayList")) 1 := sorry
theorem lm_X19_73 : ILk RX19 73 yX39_init cX39_init 2 1 := sorry
theorem lm_X19_76 : VLk RX19 76 47 yX39_read cX39_read 8 (some .long) 0 := sorry
theorem lf_X19_80_32 : FLk RX19 80 32 11 .long true := sorry
theorem lm_X19_83 : VLk RX19 83 32 yX19_references cX19_references 2 (some (.object "java/util/ArrayList")) 0 := sorry
theorem lf_X19_87_32 : FLk RX19 87 32 5 (.object "java/util/ArrayList") true := sorry
theorem lr_X19_89_33 : FLkR RX19 89 33 1 (.object "java/util/ArrayList") := sorry
theorem lm_X19_92 : VLk RX19 92 3 yJ7_iterator cJ7_iterator 1 (some (.object "java/util/Iterato\x72")) 0 := sorry
theorem lf_X19_96_14i : FLkI RX19 96 14 ⟨"java/util/Iterato\x72", "hasNext", "()Z"⟩ yJ31_hasNext cJ31_hasNext 1 (some .boolean) 0 := sorry
theorem lf_X19_102_14i : FLkI RX19 102 14 ⟨"java/util/Iterato\x72", "next", "()Ljava/lang/Object;"⟩ yJ31_next cJ31_next 3 (some (.object "java/lang/Object")) 0 := sorry
theorem lr_X19_12_32 : FLkR RX19 12 32 3 (.object "java/util/ArrayList") := sorry
theorem lm_X19_108 : VLk RX19 108 32 yX19_textOf cX19_textOf 9 (some (.object "MailWorks$Text")) 2 := sorry
theorem lr_X19_39_32 : FLkR RX19 39 32 1 (.object "java/util/ArrayList") := sorry
theorem lr_X19_21_32 : FLkR RX19 21 32 6 (.object "java/util/ArrayList") := sorry
theorem lr_X19_118_16 : FLkR RX19 118 16 1 (.object "MailWorks$Stemme\x72") := sorry
theorem lm_X19_122 : ILk RX19 122 yX45_init cX45_init 3 2 := sorry
theorem lm_X19_131 : SLk RX19 131 yX19_source cX19_source 3 (some (.object "MailWorks$Text")) 2 := sorry
theorem lm_X19_135 : VLk RX19 135 50 yX45_add cX45_add 5 none 2 := sorry
theorem lr_X19_138_33 : FLkR RX19 138 33 2 (.object "java/util/ArrayList") := sorry
theorem lr_X19_63_32 : FLkR RX19 63 32 7 (.object "MailWorks$Text") := sorry
theorem lr_X19_18_32 : FLkR RX19 18 32 4 (.object "java/util/ArrayList") := sorry
theorem lr_X19_141_35 : FLkR RX19 141 35 11 (.object "java/lang/String") := sorry
theorem lm_X19_155 : SLk RX19 155 yX19_wordsOf cX19_wordsOf 6 (some (.object "MailWorks$Words")) 1 := sorry
theorem lf_X19_159_32 : FLk RX19 159 32 8 (.object "MailWorks$Words") true := sorry
theorem lm_X19_163 : SLk RX19 163 yX19_smallOf cX19_smallOf 3 (some (.object "java/lang/String")) 1 := sorry
theorem lm_X19_167 : SLk RX19 167 yX19_baseOf cX19_baseOf 4 (some (.object "java/lang/String")) 1 := sorry
theorem lf_X19_170_32 : FLk RX19 170 32 9 (.object "java/lang/String") true := sorry
theorem lr_X19_170_32 : FLkR RX19 170 32 9 (.object "java/lang/String") := sorry
theorem lf_X19_181_32 : FLk RX19 181 32 10 .boolean true := sorry
def W2_X6_of_14 (ω : AO) (d G : Nat) (l0 l1 l2 : Int) (g : Nat) (Θ : Th) (Q : Int → Th → Prop) : Prop := Hid (SJ2 ω yX6_of cX6_of 3 (some (.object "MailWorks$Text")) d G (fun Sz Θz => (eA Sz (q2 ω Θz Q))) 14 [(2, l0), (2, l1), (0, l2)] [] g Θ)
def W2_X6_of_45 (ω : AO) (d G : Nat) (l0 l1 l2 s0 s1 : Int) (g : Nat) (Θ : Th) (Q : Int → Th → Prop) : Prop := Hid (SJ2 ω yX6_of cX6_of 3 (some (.object "MailWorks$Text")) d G (fun Sz Θz => (eA Sz (q2 ω Θz Q))) 45 [(2, l0), (2, l1), (0, l2)] [(0, s0), (2, s1)] g Θ)
set_option maxHeartbeats 4000000 in
theorem s2_X6_of {ω : AO} {d G : Nat} {l0 : Int} {Θ : Th} {Q : Int → Th → Prop} (hB : (0 + 1 ≤ G) ∧ ∀ (v0 : Int) (Θ0 : Th) (u0 : nt Θ ≤ v0 ∧ 0 ≤ v0) (b0 : Bl Θ) (t0 : Θ0 = nu Θ v0 (220, [], 0, 0)), (kd Θ0 l0 = 19) ∧ ∀ (v5 : Int) (e5 : v5 = len (vv Θ0 l0)) (r5 : -2147483648 ≤ v5 ∧ v5 < 2147483648), (1 ≤ d) ∧ (2 ≤ d) ∧ (0 + 1 + ((max 2 (min 2000 v5)).toNat / 5 + 2) ≤ G) ∧ ∀ (Θ8 : Th) (t8 : Θ8 = uq Θ0 v0 (20, [], max 2 (min 2000 v5), 0)), W2_X6_of_14 ω d G l0 v0 0 (0 + 1 + ((max 2 (min 2000 v5)).toNat / 5 + 2)) Θ8 Q) : w2_X6_of ω d G l0 Θ Q := sorry
set_option maxHeartbeats 4000000 in
theorem s2_X6_of_14 {ω : AO} {d G : Nat} {l0 l1 l2 : Int} {g : Nat} {Θ : Th} {Q : Int → Th → Prop} (hB : (kd Θ l0 = 19) ∧ ∀ (v16 : Int) (e16 : v16 = len (vv Θ l0)) (r16 : -2147483648 ≤ v16 ∧ v16 < 2147483648), (-2147483648 ≤ l2 ∧ l2 < 2147483648) ∧ (∀ (c19 : v16 ≤ l2), (g ≤ G) ∧ (-1 ≤ l1) ∧ Q l1 Θ) ∧ (∀ (c19 : l2 < v16), (0 ≤ l2 ∧ l2 < len (vv Θ l0)) ∧ ∀ (v28 : Int) (e28 : v28 = gt (vv Θ l0) l2) (r28 : -2147483648 ≤ v28 ∧ v28 < 2147483648), (∀ (c31 : v28 ≤ 65535), ∀ (v44 : Int) (e44 : v44 = gt (vv Θ l0) l2) (r44 : -2147483648 ≤ v44 ∧ v44 < 2147483648), W2_X6_of_45 ω d G l0 l1 l2 v44 l1 (g) Θ Q) ∧ (∀ (c31 : 65535 < v28), W2_X6_of_45 ω d G l0 l1 l2 65533 l1 (g) Θ Q))) : W2_X6_of_14 ω d G l0 l1 l2 g Θ Q := sorry
set_option maxHeartbeats 4000000 in
theorem s2_X6_of_45 {ω : AO} {d G : Nat} {l0 l1 l2 s0 s1 : Int} {g : Nat} {Θ : Th} {Q : Int → Th → Prop} (hB : (1 ≤ d) ∧ (kd Θ s1 = 20) ∧ (¬ fz Θ s1) ∧ (rwC (cp Θ s1) (len (vv Θ s1)) ≤ 60000000) ∧ (len (vv Θ s1) < 2000) ∧ (3 ≤ d) ∧ (g + (rwK (cp Θ s1) (len (vv Θ s1))).toNat ≤ G) ∧ ∀ (Θ45 : Th) (t45 : Θ45 = uq Θ s1 (20, vv Θ s1 ++ [s0 % 65536], rwC (cp Θ s1) (len (vv Θ s1)), cx Θ s1)), W2_X6_of_14 ω d G l0 l1 ((l2 + 1)) (g + (rwK (cp Θ s1) (len (vv Θ s1))).toNat) Θ45 Q) : W2_X6_of_45 ω d G l0 l1 l2 s0 s1 g Θ Q := sorry
def W2_X2_init_48 (ω : AO) (d G : Nat) (l0 : Int) (g : Nat) (Θ : Th) (Q : Th → Prop) : Prop := Hid (SJ2 ω yX2_init cX2_init 1 none d G (fun Sz Θz => (eU Sz (q2U ω Θz Q))) 48 [(2, l0)] [] g Θ)
set_option maxHeartbeats 4000000 in
theorem s2_X2_init {ω : AO} {d G : Nat} {l0 : Int} {Θ : Th} {Q : Th → Prop} (hB : (1 ≤ d) ∧ (0 ≤ l0) ∧ (0 + 1 ≤ G) ∧ ∀ (v5 : Int) (Θ5 : Th) (u5 : nt Θ ≤ v5 ∧ 0 ≤ v5) (b5 : Bl Θ) (t5 : Θ5 = nu Θ v5 (17, [-1], 0, 0)), ∃ G9 : Nat, (0 + 1 + G9 ≤ G) ∧ w2_X3_init ω (d - 1) G9 v5 Θ5 (fun Θ9 => ∀ (L9 : Le Θ5 Θ9), (kd Θ9 l0 = 16) ∧ (¬ fz Θ9 l0) ∧ ∀ (Θ12 : Th) (t12 : Θ12 = pf Θ9 l0 0 v5), (0 + 1 + G9 + 1 ≤ G) ∧ ∀ (v16 : Int) (Θ16 : Th) (u16 : nt Θ12 ≤ v16 ∧ 0 ≤ v16) (b16 : Bl Θ12) (t16 : Θ16 = nu Θ12 v16 (18, [-1, 0, 0], 0, 0)), ∃ G20 : Nat, (0 + 1 + G9 + 1 + G20 ≤ G) ∧ w2_X4_init ω (d - 1) G20 v16 Θ16 (fun Θ20 => ∀ (L20 : Le Θ16 Θ20), (¬ fz Θ20 l0) ∧ ∀ (Θ23 : Th) (t23 : Θ23 = pf Θ20 l0 1 v16), (0 + 1 + G9 + 1 + G20 + 1 ≤ G) ∧ ∀ (v27 : Int) (Θ27 : Th) (u27 : nt Θ23 ≤ v27 ∧ 0 ≤ v27) (b27 : Bl Θ23) (t27 : Θ27 = nu Θ23 v27 (219, [], 0, 0)), (2 ≤ d) ∧ (0 + 1 + G9 + 1 + G20 + 1 + 3 ≤ G) ∧ ∀ (Θ31 : Th) (t31 : Θ31 = uq Θ27 v27 (19, [], 8, 0)), (¬ fz Θ31 l0) ∧ ∀ (Θ34 : Th) (t34 : Θ34 = pf Θ31 l0 2 v27), (0 + 1 + G9 + 1 + G20 + 1 + 3 + 1 ≤ G) ∧ ∀ (v38 : Int) (Θ38 : Th) (u38 : nt Θ34 ≤ v38 ∧ 0 ≤ v38) (b38 : Bl Θ34) (t38 : Θ38 = nu Θ34 v38 (219, [], 0, 0)), (0 + 1 + G9 + 1 + G20 + 1 + 3 + 1 + 3 ≤ G) ∧ ∀ (Θ42 : Th) (t42 : Θ42 = uq Θ38 v38 (19, [], 8, 0)), (¬ fz Θ42 l0) ∧ ∀ (Θ45 : Th) (t45 : Θ45 = pf Θ42 l0 3 v38), W2_X2_init_48 ω d G l0 (0 + 1 + G9 + 1 + G20 + 1 + 3 + 1 + 3) Θ45 Q))) : w2_X2_init ω d G l0 Θ Q := sorry
set_option maxHeartbeats 4000000 in
theorem s2_X2_init_48 {ω : AO} {d G : Nat} {l0 : Int} {g : Nat} {Θ : Th} {Q : Th → Prop} (hB : (g + 1 ≤ G) ∧ ∀ (v49 : Int) (Θ49 : Th) (u49 : nt Θ ≤ v49 ∧ 0 ≤ v49) (b49 : Bl Θ) (t49 : Θ49 = nu Θ v49 (220, [], 0, 0)), (1 ≤ d) ∧ (3 ≤ d) ∧ (g + 1 + 3 ≤ G) ∧ ∀ (Θ53 : Th) (t53 : Θ53 = uq Θ49 v49 (20, [], 8, 0)), (kd Θ53 l0 = 16) ∧ (¬ fz Θ53 l0) ∧ ∀ (Θ56 : Th) (t56 : Θ56 = pf Θ53 l0 4 v49), Q Θ56) : W2_X2_init_48 ω d G l0 g Θ Q := sorry
set_option maxHeartbeats 4000000 in
theorem s2_X2_encoded {ω : AO} {d G : Nat} {l0 l1 : Int} {Θ : Th} {Q : Int → Th → Prop} (hB : (0 + 1 ≤ G) ∧ ∀ (v0 : Int) (Θ0 : Th) (u0 : nt Θ ≤ v0 ∧ 0 ≤ v0) (b0 : Bl Θ) (t0 : Θ0 = nu Θ v0 (43, [-1, -1, -1], 0, 0)), (kd Θ0 l0 = 16) ∧ ∀ (v6 : Int) (e6 : v6 = gt (vv Θ0 l0) 0) (r6 : -1 ≤ v6), (1 ≤ d) ∧ ∃ G9 : Nat, (0 + 1 + G9 ≤ G) ∧ w2_X30_init ω (d - 1) G9 v0 l1 v6 Θ0 (fun Θ9 => ∀ (L9 : Le Θ0 Θ9), ∃ G12 : Nat, (0 + 1 + G9 + G12 ≤ G) ∧ w2_X30_read ω (d - 1) G12 v0 Θ9 (fun x12 Θ12 => ∀ (L12 : Le Θ9 Θ12) (r12 : -1 ≤ x12), ∃ G15 : Nat, (0 + 1 + G9 + G12 + G15 ≤ G) ∧ w2_X6_of ω (d - 1) G15 x12 Θ12 (fun x15 Θ15 => ∀ (L15 : Le Θ12 Θ15) (r15 : -1 ≤ x15), (0 + 1 + G9 + G12 + G15 ≤ G) ∧ (-1 ≤ x15) ∧ Q x15 Θ15)))) : w2_X2_encoded ω d G l0 l1 Θ Q := sorry
set_option maxHeartbeats 4000000 in
theorem s2_X2_plain {ω : AO} {d G : Nat} {l0 l1 : Int} {Θ : Th} {Q : Int → Th → Prop} (hB : (0 + 1 ≤ G) ∧ ∀ (v0 : Int) (Θ0 : Th) (u0 : nt Θ ≤ v0 ∧ 0 ≤ v0) (b0 : Bl Θ) (t0 : Θ0 = nu Θ v0 (219, [], 0, 0)), (1 ≤ d) ∧ (2 ≤ d) ∧ (0 + 1 + 3 ≤ G) ∧ ∀ (Θ4 : Th) (t4 : Θ4 = uq Θ0 v0 (19, [], 8, 0)), (kd Θ4 l0 = 16) ∧ ∀ (v9 : Int) (e9 : v9 = gt (vv Θ4 l0) 0) (r9 : -1 ≤ v9), (kd Θ4 v9 = 17) ∧ ∃ G13 : Nat, (0 + 1 + 3 + G13 ≤ G) ∧ w2_X3_at ω (d - 1) G13 v9 4 Θ4 (fun x13 Θ13 => ∀ (L13 : Le Θ4 Θ13) (r13 : -1 ≤ x13), ∃ G17 : Nat, (0 + 1 + 3 + G13 + G17 ≤ G) ∧ w2_X12_ints ω (d - 1) G17 l1 Θ13 (fun x17 Θ17 => ∀ (L17 : Le Θ13 Θ17) (r17 : -1 ≤ x17), (((kd Θ17 x13 = 44) ∧ ∃ G21 : Nat, (0 + 1 + 3 + G13 + G17 + G21 ≤ G) ∧ w2_X33_read ω (d - 1) G21 x13 x17 v0 Θ17 (fun Θ21 => ∀ (L21 : Le Θ17 Θ21), ∃ G25 : Nat, (0 + 1 + 3 + G13 + G17 + G21 + G25 ≤ G) ∧ w2_X6_of ω (d - 1) G25 v0 Θ21 (fun x25 Θ25 => ∀ (L25 : Le Θ21 Θ25) (r25 : -1 ≤ x25), (0 + 1 + 3 + G13 + G17 + G21 + G25 ≤ G) ∧ (-1 ≤ x25) ∧ Q x25 Θ25))) ∨ ((kd Θ17 x13 = 45) ∧ ∃ G21 : Nat, (0 + 1 + 3 + G13 + G17 + G21 ≤ G) ∧ w2_X35_read ω (d - 1) G21 x13 x17 v0 Θ17 (fun Θ21 => ∀ (L21 : Le Θ17 Θ21), ∃ G25 : Nat, (0 + 1 + 3 + G13 + G17 + G21 + G25 ≤ G) ∧ w2_X6_of ω (d - 1) G25 v0 Θ21 (fun x25 Θ25 => ∀ (L25 : Le Θ21 Θ25) (r25 : -1 ≤ x25), (0 + 1 + 3 + G13 + G17 + G21 + G25 ≤ G) ∧ (-1 ≤ x25) ∧ Q x25 Θ25))) ∨ ((kd Θ17 x13 = 67) ∧ ∃ G21 : Nat, (0 + 1 + 3 + G13 + G17 + G21 ≤ G) ∧ w2_X32_read ω (d - 1) G21 x13 x17 v0 Θ17 (fun Θ21 => ∀ (L21 : Le Θ17 Θ21), ∃ G25 : Nat, (0 + 1 + 3 + G13 + G17 + G21 + G25 ≤ G) ∧ w2_X6_of ω (d - 1) G25 v0 Θ21 (fun x25 Θ25 => ∀ (L25 : Le Θ21 Θ25) (r25 : -1 ≤ x25), (0 + 1 + 3 + G13 + G17 + G21 + G25 ≤ G) ∧ (-1 ≤ x25) ∧ Q x25 Θ25))) ∨ ((kd Θ17 x13 = 69) ∧ ∃ G21 : Nat, (0 + 1 + 3 + G13 + G17 + G21 ≤ G) ∧ w2_X34_read ω (d - 1) G21 x13 x17 v0 Θ17 (fun Θ21 => ∀ (L21 : Le Θ17 Θ21), ∃ G25 : Nat, (0 + 1 + 3 + G13 + G17 + G21 + G25 ≤ G) ∧ w2_X6_of ω (d - 1) G25 v0 Θ21 (fun x25 Θ25 => ∀ (L25 : Le Θ21 Θ25) (r25 : -1 ≤ x25), (0 + 1 + 3 + G13 + G17 + G21 + G25 ≤ G) ∧ (-1 ≤ x25) ∧ Q x25 Θ25))))))) : w2_X2_plain ω d G l0 l1 Θ Q := sorry
def W2_X2_query_24 (ω : AO) (d G : Nat) (l0 l1 l2 : Int) (g : Nat) (Θ : Th) (Q : Int → Th → Prop) : Prop := Hid (SJ2 ω yX2_query cX2_query 3 (some (.object "MailWorks$Text")) d G (fun Sz Θz => (eA Sz (q2 ω Θz Q))) 24 [(2, l0), (2, l1), (0, l2)] [] g Θ)
def W2_X2_query_71 (ω : AO) (d G : Nat) (l0 l2 : Int) (g : Nat) (Θ : Th) (Q : Int → Th → Prop) : Prop := Hid (SJ2 ω yX2_query cX2_query 3 (some (.object "MailWorks$Text")) d G (fun Sz Θz => (eA Sz (q2 ω Θz Q))) 71 [(2, l0), vN, (0, l2)] [] g Θ)
def W2_X2_query_114 (ω : AO) (d G : Nat) (l0 l2 s0 s1 : Int) (g : Nat) (Θ : Th) (Q : Int → Th → Prop) : Prop := Hid (SJ2 ω yX2_query cX2_query 3 (some (.object "MailWorks$Text")) d G (fun Sz Θz => (eA Sz (q2 ω Θz Q))) 114 [(2, l0), vN, (0, l2)] [(0, s0), (2, s1)] g Θ)
set_option maxHeartbeats 4000000 in
theorem s2_X2_query {ω : AO} {d G : Nat} {l0 l1 : Int} {Θ : Th} {Q : Int → Th → Prop} (hB : (kd Θ l0 = 16) ∧ ∀ (v1 : Int) (e1 : v1 = gt (vv Θ l0) 2) (r1 : -1 ≤ v1), (1 ≤ d) ∧ (kd Θ v1 = 19) ∧ (¬ fz Θ v1) ∧ ∀ (Θ4 : Th) (t4 : Θ4 = uq Θ v1 (19, [], cp Θ v1, cx Θ v1)), ∀ (v8 : Int) (e8 : v8 = gt (vv Θ4 l0) 3) (r8 : -1 ≤ v8), (kd Θ4 v8 = 19) ∧ (¬ fz Θ4 v8) ∧ ∀ (Θ11 : Th) (t11 : Θ11 = uq Θ4 v8 (19, [], cp Θ4 v8, cx Θ4 v8)), ∀ (v15 : Int) (e15 : v15 = gt (vv Θ11 l0) 4) (r15 : -1 ≤ v15), (kd Θ11 v15 = 20) ∧ (¬ fz Θ11 v15) ∧ (0 ≤ (0 : Int) ∧ 0 ≤ len (vv Θ11 v15)) ∧ ∀ (Θ19 : Th) (t19 : Θ19 = pm Θ11 v15 0), W2_X2_query_24 ω d G l0 l1 0 (0) Θ19 Q) : w2_X2_query ω d G l0 l1 Θ Q := sorry
set_option maxHeartbeats 4000000 in
theorem s2_X2_query_24 {ω : AO} {d G : Nat} {l0 l1 l2 : Int} {g : Nat} {Θ : Th} {Q : Int → Th → Prop} (hB : (1 ≤ d) ∧ (kd Θ l1 = 2) ∧ (2 ≤ d) ∧ (g ≤ G) ∧ ∀ (x26 : Int) (e26 : x26 = len (vv Θ l1)) (r26 : -2147483648 ≤ x26 ∧ x26 < 2147483648), (-2147483648 ≤ l2 ∧ l2 < 2147483648) ∧ (∀ (c29 : x26 ≤ l2), (kd Θ l0 = 16) ∧ ∀ (v51 : Int) (e51 : v51 = gt (vv Θ l0) 0) (r51 : -1 ≤ v51), (kd Θ v51 = 17) ∧ ∃ G55 : Nat, (g + G55 ≤ G) ∧ w2_X3_at ω (d - 1) G55 v51 4 Θ (fun x55 Θ55 => ∀ (L55 : Le Θ Θ55) (r55 : -1 ≤ x55), ∀ (v59 : Int) (e59 : v59 = gt (vv Θ55 l0) 2) (r59 : -1 ≤ v59), ∀ (v63 : Int) (e63 : v63 = gt (vv Θ55 l0) 3) (r63 : -1 ≤ v63), (((kd Θ55 x55 = 44) ∧ ∃ G66 : Nat, (g + G55 + G66 ≤ G) ∧ w2_X33_read ω (d - 1) G66 x55 v59 v63 Θ55 (fun Θ66 => ∀ (L66 : Le Θ55 Θ66), W2_X2_query_71 ω d G l0 0 (g + G55 + G66) Θ66 Q)) ∨ ((kd Θ55 x55 = 45) ∧ ∃ G66 : Nat, (g + G55 + G66 ≤ G) ∧ w2_X35_read ω (d - 1) G66 x55 v59 v63 Θ55 (fun Θ66 => ∀ (L66 : Le Θ55 Θ66), W2_X2_query_71 ω d G l0 0 (g + G55 + G66) Θ66 Q)) ∨ ((kd Θ55 x55 = 67) ∧ ∃ G66 : Nat, (g + G55 + G66 ≤ G) ∧ w2_X32_read ω (d - 1) G66 x55 v59 v63 Θ55 (fun Θ66 => ∀ (L66 : Le Θ55 Θ66), W2_X2_query_71 ω d G l0 0 (g + G55 + G66) Θ66 Q)) ∨ ((kd Θ55 x55 = 69) ∧ ∃ G66 : Nat, (g + G55 + G66 ≤ G) ∧ w2_X34_read ω (d - 1) G66 x55 v59 v63 Θ55 (fun Θ66 => ∀ (L66 : Le Θ55 Θ66), W2_X2_query_71 ω d G l0 0 (g + G55 + G66) Θ66 Q))))) ∧ (∀ (c29 : l2 < x26), (kd Θ l0 = 16) ∧ ∀ (v33 : Int) (e33 : v33 = gt (vv Θ l0) 2) (r33 : -1 ≤ v33), (0 ≤ l2 ∧ l2 < len (vv Θ l1)) ∧ (5 ≤ d) ∧ ∀ (x38 : Int) (e38 : x38 = gt (vv Θ l1) l2) (r38 : 0 ≤ x38 ∧ x38 < 65536), (kd Θ v33 = 19) ∧ (¬ fz Θ v33) ∧ (rwC (cp Θ v33) (len (vv Θ v33)) ≤ 60000000) ∧ (3 ≤ d) ∧ (g + (rwK (cp Θ v33) (len (vv Θ v33))).toNat ≤ G) ∧ ∀ (Θ41 : Th) (t41 : Θ41 = uq Θ v33 (19, vv Θ v33 ++ [x38], rwC (cp Θ v33) (len (vv Θ v33)), cx Θ v33)), W2_X2_query_24 ω d G l0 l1 ((l2 + 1)) (g + (rwK (cp Θ v33) (len (vv Θ v33))).toNat) Θ41 Q)) : W2_X2_query_24 ω d G l0 l1 l2 g Θ Q := sorry
set_option maxHeartbeats 4000000 in
theorem s2_X2_query_71 {ω : AO} {d G : Nat} {l0 l2 : Int} {g : Nat} {Θ : Th} {Q : Int → Th → Prop} (hB : (kd Θ l0 = 16) ∧ ∀ (v73 : Int) (e73 : v73 = gt (vv Θ l0) 3) (r73 : -1 ≤ v73), (kd Θ v73 = 19) ∧ ∀ (v76 : Int) (e76 : v76 = len (vv Θ v73)) (r76 : -2147483648 ≤ v76 ∧ v76 < 2147483648), (-2147483648 ≤ l2 ∧ l2 < 2147483648) ∧ (∀ (c79 : v76 ≤ l2), ∀ (v124 : Int) (e124 : v124 = gt (vv Θ l0) 4) (r124 : -1 ≤ v124), (g ≤ G) ∧ Q v124 Θ) ∧ (∀ (c79 : l2 < v76), ∀ (v83 : Int) (e83 : v83 = gt (vv Θ l0) 4) (r83 : -1 ≤ v83), ∀ (v87 : Int) (e87 : v87 = gt (vv Θ l0) 3) (r87 : -1 ≤ v87), (kd Θ v87 = 19) ∧ (0 ≤ l2 ∧ l2 < len (vv Θ v87)) ∧ ∀ (v94 : Int) (e94 : v94 = gt (vv Θ v87) l2) (r94 : -2147483648 ≤ v94 ∧ v94 < 2147483648), (∀ (c97 : v94 ≤ 65535), ∀ (v106 : Int) (e106 : v106 = gt (vv Θ l0) 3) (r106 : -1 ≤ v106), (kd Θ v106 = 19) ∧ (0 ≤ l2 ∧ l2 < len (vv Θ v106)) ∧ ∀ (v113 : Int) (e113 : v113 = gt (vv Θ v106) l2) (r113 : -2147483648 ≤ v113 ∧ v113 < 2147483648), W2_X2_query_114 ω d G l0 l2 v113 v83 (g) Θ Q) ∧ (∀ (c97 : 65535 < v94), W2_X2_query_114 ω d G l0 l2 65533 v83 (g) Θ Q))) : W2_X2_query_71 ω d G l0 l2 g Θ Q := sorry
set_option maxHeartbeats 4000000 in
theorem s2_X2_query_114 {ω : AO} {d G : Nat} {l0 l2 s0 s1 : Int} {g : Nat} {Θ : Th} {Q : Int → Th → Prop} (hB : (1 ≤ d) ∧ (kd Θ s1 = 20) ∧ (¬ fz Θ s1) ∧ (rwC (cp Θ s1) (len (vv Θ s1)) ≤ 60000000) ∧ (len (vv Θ s1) < 2000) ∧ (3 ≤ d) ∧ (g + (rwK (cp Θ s1) (len (vv Θ s1))).toNat ≤ G) ∧ ∀ (Θ114 : Th) (t114 : Θ114 = uq Θ s1 (20, vv Θ s1 ++ [s0 % 65536], rwC (cp Θ s1) (len (vv Θ s1)), cx Θ s1)), W2_X2_query_71 ω d G l0 ((l2 + 1)) (g + (rwK (cp Θ s1) (len (vv Θ s1))).toNat) Θ114 Q) : W2_X2_query_114 ω d G l0 l2 s0 s1 g Θ Q := sorry
def W2_X19_smallOf_10 (ω : AO) (d G : Nat) (l0 l1 l2 : Int) (g : Nat) (Θ : Th) (Q : Int → Th → Prop) : Prop := Hid (SJ2 ω yX19_smallOf cX19_smallOf 3 (some (.object "java/lang/String")) d G (fun Sz Θz => (eA Sz (q2 ω Θz Q))) 10 [(2, l0), (2, l1), (0, l2)] [] g Θ)
set_option maxHeartbeats 4000000 in
theorem s2_X19_smallOf {ω : AO} {d G : Nat} {l0 : Int} {Θ : Th} {Q : Int → Th → Prop} (hB : (0 + 1 ≤ G) ∧ ∀ (v0 : Int) (Θ0 : Th) (u0 : nt Θ ≤ v0 ∧ 0 ≤ v0) (b0 : Bl Θ) (t0 : Θ0 = nu Θ v0 (201, [], 0, 0)), (1 ≤ d) ∧ (3 ≤ d) ∧ (0 + 1 + 5 ≤ G) ∧ ∀ (Θ4 : Th) (t4 : Θ4 = uq Θ0 v0 (1, [], 16, 0)), W2_X19_smallOf_10 ω d G l0 v0 0 (0 + 1 + 5) Θ4 Q) : w2_X19_smallOf ω d G l0 Θ Q := sorry
set_option maxHeartbeats 4000000 in
theorem s2_X19_smallOf_10 {ω : AO} {d G : Nat} {l0 l1 l2 : Int} {g : Nat} {Θ : Th} {Q : Int → Th → Prop} (hB : (kd Θ l0 = 20) ∧ ∀ (v12 : Int) (e12 : v12 = len (vv Θ l0)) (r12 : -2147483648 ≤ v12 ∧ v12 < 2147483648), (-2147483648 ≤ l2 ∧ l2 < 2147483648) ∧ (∀ (c15 : v12 ≤ l2), (1 ≤ d) ∧ (kd Θ l1 = 1) ∧ (len (vv Θ l1) ≤ 15000000) ∧ (8 ≤ d) ∧ (g + (len (vv Θ l1) + 5).toNat ≤ G) ∧ ∀ (x39 : Int) (Θ39 : Th) (e39 : NewS Θ Θ39 x39 (vv Θ l1)) (n39 : nt Θ ≤ x39), Q x39 Θ39) ∧ (∀ (c15 : l2 < v12), (1 ≤ d) ∧ (g ≤ G) ∧ ∀ (x21 : Int) (e21 : x21 = atI (vv Θ l0) l2) (r21 : -2147483648 ≤ x21 ∧ x21 < 2147483648), ∀ (x24 : Int) (e24 : x24 = smW x21) (r24 : -2147483648 ≤ x24 ∧ x24 < 2147483648), (kd Θ l1 = 1) ∧ (¬ fz Θ l1) ∧ (bC (cp Θ l1) (len (vv Θ l1) + 1) ≤ 20000000) ∧ (9 ≤ d) ∧ (g + (bK (bC (cp Θ l1) (len (vv Θ l1) + 1)) (if (x24 % 65536) ≤ 255 then cx Θ l1 else 1) - bK (cp Θ l1) (cx Θ l1)).toNat ≤ G) ∧ ∀ (Θ28 : Th) (t28 : Θ28 = uq Θ l1 (1, vv Θ l1 ++ [(x24 % 65536)], bC (cp Θ l1) (len (vv Θ l1) + 1), if (x24 % 65536) ≤ 255 then cx Θ l1 else 1)), W2_X19_smallOf_10 ω d G l0 l1 ((l2 + 1)) (g + (bK (bC (cp Θ l1) (len (vv Θ l1) + 1)) (if (x24 % 65536) ≤ 255 then cx Θ l1 else 1) - bK (cp Θ l1) (cx Θ l1)).toNat) Θ28 Q)) : W2_X19_smallOf_10 ω d G l0 l1 l2 g Θ Q := sorry
def W2_X19_prefixEnd_22 (ω : AO) (d G : Nat) (l0 l1 : Int) (g : Nat) (Θ : Th) (Q : Int → Th → Prop) : Prop := Hid (SJ2 ω yX19_prefixEnd cX19_prefixEnd 5 (some .int) d G (fun Sz Θz => (eI Sz (q2 ω Θz Q))) 22 [(2, l0), (0, l1), vN, vN, vN] [] g Θ)
def W2_X19_prefixEnd_57 (ω : AO) (d G : Nat) (l0 l1 s0 : Int) (g : Nat) (Θ : Th) (Q : Int → Th → Prop) : Prop := Hid (SJ2 ω yX19_prefixEnd cX19_prefixEnd 5 (some .int) d G (fun Sz Θz => (eI Sz (q2 ω Θz Q))) 57 [(2, l0), (0, l1), vN, vN, vN] [(0, s0)] g Θ)
def W2_X19_prefixEnd_148 (ω : AO) (d G : Nat) (l0 l3 : Int) (g : Nat) (Θ : Th) (Q : Int → Th → Prop) : Prop := Hid (SJ2 ω yX19_prefixEnd cX19_prefixEnd 5 (some .int) d G (fun Sz Θz => (eI Sz (q2 ω Θz Q))) 148 [(2, l0), vN, vN, (0, l3), vN] [] g Θ)
def W2_X19_prefixEnd_94 (ω : AO) (d G : Nat) (l0 l3 l4 : Int) (g : Nat) (Θ : Th) (Q : Int → Th → Prop) : Prop := Hid (SJ2 ω yX19_prefixEnd cX19_prefixEnd 5 (some .int) d G (fun Sz Θz => (eI Sz (q2 ω Θz Q))) 94 [(2, l0), vN, vN, (0, l3), (0, l4)] [] g Θ)
def W2_X19_prefixEnd_119 (ω : AO) (d G : Nat) (l0 l3 l4 : Int) (g : Nat) (Θ : Th) (Q : Int → Th → Prop) : Prop := Hid (SJ2 ω yX19_prefixEnd cX19_prefixEnd 5 (some .int) d G (fun Sz Θz => (eI Sz (q2 ω Θz Q))) 119 [(2, l0), vN, vN, (0, l3), (0, l4)] [] g Θ)
set_option maxHeartbeats 4000000 in
theorem s2_X19_prefixEnd {ω : AO} {d G : Nat} {l0 l1 : Int} {Θ : Th} {Q : Int → Th → Prop} (hB : ∀ (v1 : Int) (h1 : Str Θ v1 [114, 101]), (1 ≤ d) ∧ (kd Θ l0 = 2) ∧ ∃ G5 : Nat, (0 + G5 ≤ G) ∧ w2_J2_startsWith ω (d - 1) G5 l0 v1 l1 Θ (fun x5 Θ5 => ∀ (L5 : Le Θ Θ5) (r5 : x5 = 0 ∨ x5 = 1), (∀ (c8 : ¬ x5 = 0), W2_X19_prefixEnd_22 ω d G l0 l1 (0 + G5) Θ5 Q) ∧ (∀ (c8 : x5 = 0), ∀ (v12 : Int) (h12 : Str Θ5 v12 [97, 119]), ∃ G16 : Nat, (0 + G5 + G16 ≤ G) ∧ w2_J2_startsWith ω (d - 1) G16 l0 v12 l1 Θ5 (fun x16 Θ16 => ∀ (L16 : Le Θ5 Θ16) (r16 : x16 = 0 ∨ x16 = 1), (∀ (c19 : x16 = 0), ∀ (v27 : Int) (h27 : Str Θ16 v27 [102, 119, 100]), ∃ G31 : Nat, (0 + G5 + G16 + G31 ≤ G) ∧ w2_J2_startsWith ω (d - 1) G31 l0 v27 l1 Θ16 (fun x31 Θ31 => ∀ (L31 : Le Θ16 Θ31) (r31 : x31 = 0 ∨ x31 = 1), (∀ (c34 : x31 = 0), ∀ (v42 : Int) (h42 : Str Θ31 v42 [102, 119]), ∃ G46 : Nat, (0 + G5 + G16 + G31 + G46 ≤ G) ∧ w2_J2_startsWith ω (d - 1) G46 l0 v42 l1 Θ31 (fun x46 Θ46 => ∀ (L46 : Le Θ31 Θ46) (r46 : x46 = 0 ∨ x46 = 1), (∀ (c49 : x46 = 0), W2_X19_prefixEnd_57 ω d G l0 l1 0 (0 + G5 + G16 + G31 + G46) Θ46 Q) ∧ (∀ (c49 : ¬ x46 = 0), W2_X19_prefixEnd_57 ω d G l0 l1 2 (0 + G5 + G16 + G31 + G46) Θ46 Q))) ∧ (∀ (c34 : ¬ x31 = 0), W2_X19_prefixEnd_57 ω d G l0 l1 3 (0 + G5 + G16 + G31) Θ31 Q))) ∧ (∀ (c19 : ¬ x16 = 0), W2_X19_prefixEnd_22 ω d G l0 l1 (0 + G5 + G16) Θ16 Q))))) : w2_X19_prefixEnd ω d G l0 l1 Θ Q := sorry
set_option maxHeartbeats 4000000 in
theorem s2_X19_prefixEnd_22 {ω : AO} {d G : Nat} {l0 l1 : Int} {g : Nat} {Θ : Th} {Q : Int → Th → Prop} (hB : W2_X19_prefixEnd_57 ω d G l0 l1 2 (g) Θ Q) : W2_X19_prefixEnd_22 ω d G l0 l1 g Θ Q := sorry
set_option maxHeartbeats 4000000 in
theorem s2_X19_prefixEnd_57 {ω : AO} {d G : Nat} {l0 l1 s0 : Int} {g : Nat} {Θ : Th} {Q : Int → Th → Prop} (hB : (-2147483648 ≤ s0 ∧ s0 < 2147483648) ∧ (∀ (c59 : ¬ s0 = 0), (1 ≤ d) ∧ (kd Θ l0 = 2) ∧ (2 ≤ d) ∧ (g ≤ G) ∧ ∀ (x70 : Int) (e70 : x70 = len (vv Θ l0)) (r70 : -2147483648 ≤ x70 ∧ x70 < 2147483648), (-2147483648 ≤ (l1 + s0) ∧ (l1 + s0) < 2147483648) ∧ (∀ (c73 : x70 ≤ (l1 + s0)), W2_X19_prefixEnd_148 ω d G l0 ((l1 + s0)) (g) Θ Q) ∧ (∀ (c73 : (l1 + s0) < x70), (0 ≤ (l1 + s0) ∧ (l1 + s0) < len (vv Θ l0)) ∧ (5 ≤ d) ∧ ∀ (x78 : Int) (e78 : x78 = gt (vv Θ l0) (l1 + s0)) (r78 : 0 ≤ x78 ∧ x78 < 65536), (∀ (c83 : ¬ x78 = 91), W2_X19_prefixEnd_148 ω d G l0 ((l1 + s0)) (g) Θ Q) ∧ (∀ (c83 : x78 = 91), W2_X19_prefixEnd_94 ω d G l0 (((l1 + s0) + 1)) (((l1 + s0) + 1)) (g) Θ Q))) ∧ (∀ (c59 : s0 = 0), (g ≤ G) ∧ Q 0 Θ)) : W2_X19_prefixEnd_57 ω d G l0 l1 s0 g Θ Q := sorry
set_option maxHeartbeats 4000000 in
theorem s2_X19_prefixEnd_148 {ω : AO} {d G : Nat} {l0 l3 : Int} {g : Nat} {Θ : Th} {Q : Int → Th → Prop} (hB : (1 ≤ d) ∧ (kd Θ l0 = 2) ∧ (2 ≤ d) ∧ (g ≤ G) ∧ ∀ (x150 : Int) (e150 : x150 = len (vv Θ l0)) (r150 : -2147483648 ≤ x150 ∧ x150 < 2147483648), (-2147483648 ≤ l3 ∧ l3 < 2147483648) ∧ (∀ (c153 : x150 ≤ l3), Q 0 Θ) ∧ (∀ (c153 : l3 < x150), (0 ≤ l3 ∧ l3 < len (vv Θ l0)) ∧ (5 ≤ d) ∧ ∀ (x158 : Int) (e158 : x158 = gt (vv Θ l0) l3) (r158 : 0 ≤ x158 ∧ x158 < 65536), (∀ (c163 : ¬ x158 = 58), Q 0 Θ) ∧ (∀ (c163 : x158 = 58), (-2147483648 ≤ (l3 + 1) ∧ (l3 + 1) < 2147483648) ∧ Q (l3 + 1) Θ))) : W2_X19_prefixEnd_148 ω d G l0 l3 g Θ Q := sorry
set_option maxHeartbeats 4000000 in
theorem s2_X19_prefixEnd_94 {ω : AO} {d G : Nat} {l0 l3 l4 : Int} {g : Nat} {Θ : Th} {Q : Int → Th → Prop} (hB : (1 ≤ d) ∧ (kd Θ l0 = 2) ∧ (2 ≤ d) ∧ (g ≤ G) ∧ ∀ (x96 : Int) (e96 : x96 = len (vv Θ l0)) (r96 : -2147483648 ≤ x96 ∧ x96 < 2147483648), (-2147483648 ≤ l3 ∧ l3 < 2147483648) ∧ (∀ (c99 : x96 ≤ l3), W2_X19_prefixEnd_119 ω d G l0 l3 l4 (g) Θ Q) ∧ (∀ (c99 : l3 < x96), (0 ≤ l3 ∧ l3 < len (vv Θ l0)) ∧ (5 ≤ d) ∧ ∀ (x104 : Int) (e104 : x104 = gt (vv Θ l0) l3) (r104 : 0 ≤ x104 ∧ x104 < 65536), ∀ (x107 : Int) (e107 : x107 = if chDg x104 then 1 else 0) (r107 : x107 = 0 ∨ x107 = 1), (∀ (c110 : x107 = 0), W2_X19_prefixEnd_119 ω d G l0 l3 l4 (g) Θ Q) ∧ (∀ (c110 : ¬ x107 = 0), W2_X19_prefixEnd_94 ω d G l0 ((l3 + 1)) l4 (g) Θ Q))) : W2_X19_prefixEnd_94 ω d G l0 l3 l4 g Θ Q := sorry
set_option maxHeartbeats 4000000 in
theorem s2_X19_prefixEnd_119 {ω : AO} {d G : Nat} {l0 l3 l4 : Int} {g : Nat} {Θ : Th} {Q : Int → Th → Prop} (hB : (-2147483648 ≤ l3 ∧ l3 < 2147483648) ∧ (-2147483648 ≤ l4 ∧ l4 < 2147483648) ∧ (∀ (c122 : l3 = l4), (g ≤ G) ∧ Q 0 Θ) ∧ (∀ (c122 : ¬ l3 = l4), (1 ≤ d) ∧ (kd Θ l0 = 2) ∧ (2 ≤ d) ∧ (g ≤ G) ∧ ∀ (x127 : Int) (e127 : x127 = len (vv Θ l0)) (r127 : -2147483648 ≤ x127 ∧ x127 < 2147483648), (∀ (c130 : l3 = x127), Q 0 Θ) ∧ (∀ (c130 : ¬ l3 = x127), (0 ≤ l3 ∧ l3 < len (vv Θ l0)) ∧ (5 ≤ d) ∧ ∀ (x135 : Int) (e135 : x135 = gt (vv Θ l0) l3) (r135 : 0 ≤ x135 ∧ x135 < 65536), (∀ (c140 : x135 = 93), W2_X19_prefixEnd_148 ω d G l0 ((l3 + 1)) (g) Θ Q) ∧ (∀ (c140 : ¬ x135 = 93), Q 0 Θ)))) : W2_X19_prefixEnd_119 ω d G l0 l3 l4 g Θ Q := sorry
def W2_X19_baseOf_13 (ω : AO) (d G : Nat) (l1 l2 l3 : Int) (g : Nat) (Θ : Th) (Q : Int → Th → Prop) : Prop := Hid (SJ2 ω yX19_baseOf cX19_baseOf 4 (some (.object "java/lang/String")) d G (fun Sz Θz => (eA Sz (q2 ω Θz Q))) 13 [vN, (2, l1), (0, l2), (0, l3)] [] g Θ)
def W2_X19_baseOf_19 (ω : AO) (d G : Nat) (l1 l2 : Int) (g : Nat) (Θ : Th) (Q : Int → Th → Prop) : Prop := Hid (SJ2 ω yX19_baseOf cX19_baseOf 4 (some (.object "java/lang/String")) d G (fun Sz Θz => (eA Sz (q2 ω Θz Q))) 19 [vN, (2, l1), (0, l2), vN] [] g Θ)
def W2_X19_baseOf_44 (ω : AO) (d G : Nat) (l1 l2 : Int) (g : Nat) (Θ : Th) (Q : Int → Th → Prop) : Prop := Hid (SJ2 ω yX19_baseOf cX19_baseOf 4 (some (.object "java/lang/String")) d G (fun Sz Θz => (eA Sz (q2 ω Θz Q))) 44 [vN, (2, l1), (0, l2), vN] [] g Θ)
set_option maxHeartbeats 4000000 in
theorem s2_X19_baseOf {ω : AO} {d G : Nat} {l0 : Int} {Θ : Th} {Q : Int → Th → Prop} (hB : (1 ≤ d) ∧ (kd Θ l0 = 2) ∧ (8 ≤ d) ∧ (0 + (len (vv Θ l0) + 5).toNat ≤ G) ∧ ∀ (x1 : Int) (Θ1 : Th) (e1 : NewS Θ Θ1 x1 (trmL (vv Θ l0))), ∃ G9 : Nat, (0 + (len (vv Θ l0) + 5).toNat + G9 ≤ G) ∧ w2_X19_prefixEnd ω (d - 1) G9 x1 0 Θ1 (fun x9 Θ9 => ∀ (L9 : Le Θ1 Θ9) (r9 : -2147483648 ≤ x9 ∧ x9 < 2147483648), W2_X19_baseOf_13 ω d G x1 0 x9 (0 + (len (vv Θ l0) + 5).toNat + G9) Θ9 Q)) : w2_X19_baseOf ω d G l0 Θ Q := sorry
set_option maxHeartbeats 4000000 in
theorem s2_X19_baseOf_13 {ω : AO} {d G : Nat} {l1 l2 l3 : Int} {g : Nat} {Θ : Th} {Q : Int → Th → Prop} (hB : (-2147483648 ≤ l3 ∧ l3 < 2147483648) ∧ (∀ (c14 : l3 ≤ 0), (1 ≤ d) ∧ (kd Θ l1 = 2) ∧ (0 ≤ l2 ∧ l2 ≤ len (vv Θ l1)) ∧ (l2 < len (vv Θ l1) ∨ wide (vv Θ l1) = 0 ∨ vv Θ l1 = []) ∧ (8 ≤ d) ∧ (g + (len (vv Θ l1) - l2 + 5).toNat ≤ G) ∧ ∀ (x55 : Int) (Θ55 : Th) (e55 : NewS Θ Θ55 x55 (sub (vv Θ l1) l2 (len (vv Θ l1)))), Q x55 Θ55) ∧ (∀ (c14 : 0 < l3), W2_X19_baseOf_19 ω d G l1 l3 (g) Θ Q)) : W2_X19_baseOf_13 ω d G l1 l2 l3 g Θ Q := sorry
set_option maxHeartbeats 4000000 in
theorem s2_X19_baseOf_19 {ω : AO} {d G : Nat} {l1 l2 : Int} {g : Nat} {Θ : Th} {Q : Int → Th → Prop} (hB : (1 ≤ d) ∧ (kd Θ l1 = 2) ∧ (2 ≤ d) ∧ (g ≤ G) ∧ ∀ (x21 : Int) (e21 : x21 = len (vv Θ l1)) (r21 : -2147483648 ≤ x21 ∧ x21 < 2147483648), (-2147483648 ≤ l2 ∧ l2 < 2147483648) ∧ (∀ (c24 : x21 ≤ l2), W2_X19_baseOf_44 ω d G l1 l2 (g) Θ Q) ∧ (∀ (c24 : l2 < x21), (0 ≤ l2 ∧ l2 < len (vv Θ l1)) ∧ (5 ≤ d) ∧ ∀ (x29 : Int) (e29 : x29 = gt (vv Θ l1) l2) (r29 : 0 ≤ x29 ∧ x29 < 65536), ∀ (x32 : Int) (e32 : x32 = if chBl x29 then 1 else 0) (r32 : x32 = 0 ∨ x32 = 1), (∀ (c35 : x32 = 0), W2_X19_baseOf_44 ω d G l1 l2 (g) Θ Q) ∧ (∀ (c35 : ¬ x32 = 0), W2_X19_baseOf_19 ω d G l1 ((l2 + 1)) (g) Θ Q))) : W2_X19_baseOf_19 ω d G l1 l2 g Θ Q := sorry
set_option maxHeartbeats 4000000 in
theorem s2_X19_baseOf_44 {ω : AO} {d G : Nat} {l1 l2 : Int} {g : Nat} {Θ : Th} {Q : Int → Th → Prop} (hB : (1 ≤ d) ∧ ∃ G46 : Nat, (g + G46 ≤ G) ∧ w2_X19_prefixEnd ω (d - 1) G46 l1 l2 Θ (fun x46 Θ46 => ∀ (L46 : Le Θ Θ46) (r46 : -2147483648 ≤ x46 ∧ x46 < 2147483648), W2_X19_baseOf_13 ω d G l1 l2 x46 (g + G46) Θ46 Q)) : W2_X19_baseOf_44 ω d G l1 l2 g Θ Q := sorry
def W2_X19_identities_15 (ω : AO) (d G : Nat) (l0 l1 l2 : Int) (g : Nat) (Θ : Th) (Q : Int → Th → Prop) : Prop := Hid (SJ2 ω yX19_identities cX19_identities 5 (some (.object "java/util/ArrayList")) d G (fun Sz Θz => (eA Sz (q2 ω Θz Q))) 15 [(2, l0), (2, l1), (0, l2), vN, vN] [] g Θ)
def W2_X19_identities_88 (ω : AO) (d G : Nat) (l0 l1 l3 : Int) (g : Nat) (Θ : Th) (Q : Int → Th → Prop) : Prop := Hid (SJ2 ω yX19_identities cX19_identities 5 (some (.object "java/util/ArrayList")) d G (fun Sz Θz => (eA Sz (q2 ω Θz Q))) 88 [(2, l0), (2, l1), vN, (0, l3), vN] [] g Θ)
set_option maxHeartbeats 4000000 in
theorem s2_X19_identities {ω : AO} {d G : Nat} {l0 : Int} {Θ : Th} {Q : Int → Th → Prop} (hB : (0 + 1 ≤ G) ∧ ∀ (v0 : Int) (Θ0 : Th) (u0 : nt Θ ≤ v0 ∧ 0 ≤ v0) (b0 : Bl Θ) (t0 : Θ0 = nu Θ v0 (203, [], 0, 0)), (1 ≤ d) ∧ (4 ≤ d) ∧ ∀ (k4 : Int) (Θ4 : Th) (t4 : Θ4 = uq Θ0 v0 (3, [], 0, k4)), (kd Θ4 l0 = 2) ∧ (7 ≤ d) ∧ ∀ (x11 : Int) (e11 : x11 = idx (vv Θ4 l0) (60 : Int) 0) (r11 : -2147483648 ≤ x11 ∧ x11 < 2147483648), W2_X19_identities_15 ω d G l0 v0 x11 (0 + 1) Θ4 Q) : w2_X19_identities ω d G l0 Θ Q := sorry
set_option maxHeartbeats 4000000 in
theorem s2_X19_identities_15 {ω : AO} {d G : Nat} {l0 l1 l2 : Int} {g : Nat} {Θ : Th} {Q : Int → Th → Prop} (hB : (-2147483648 ≤ l2 ∧ l2 < 2147483648) ∧ (∀ (c16 : l2 < 0), (g ≤ G) ∧ (-1 ≤ l1) ∧ Q l1 Θ) ∧ (∀ (c16 : 0 ≤ l2), (1 ≤ d) ∧ (kd Θ l0 = 2) ∧ (6 ≤ d) ∧ (g ≤ G) ∧ ∀ (x23 : Int) (e23 : x23 = idx (vv Θ l0) (62 : Int) l2) (r23 : -2147483648 ≤ x23 ∧ x23 < 2147483648), (∀ (c28 : 0 ≤ x23), (0 ≤ (l2 + 1) ∧ (l2 + 1) ≤ x23 ∧ x23 ≤ len (vv Θ l0)) ∧ ((l2 + 1) < x23 ∨ wide (vv Θ l0) = 0 ∨ vv Θ l0 = []) ∧ (7 ≤ d) ∧ (g + (x23 - (l2 + 1) + 5).toNat ≤ G) ∧ ∀ (x38 : Int) (Θ38 : Th) (e38 : NewS Θ Θ38 x38 (sub (vv Θ l0) (l2 + 1) x23)), ∀ (x45 : Int) (e45 : x45 = if vv Θ38 x38 = [] then 1 else 0) (r45 : x45 = 0 ∨ x45 = 1), (∀ (c48 : ¬ x45 = 0), W2_X19_identities_88 ω d G l0 l1 x23 (g + (x23 - (l2 + 1) + 5).toNat) Θ38 Q) ∧ (∀ (c48 : x45 = 0), (2 ≤ d) ∧ ∀ (x53 : Int) (e53 : x53 = len (vv Θ38 x38)) (r53 : -2147483648 ≤ x53 ∧ x53 < 2147483648), (∀ (c58 : 100 < x53), W2_X19_identities_88 ω d G l0 l1 x23 (g + (x23 - (l2 + 1) + 5).toNat) Θ38 Q) ∧ (∀ (c58 : x53 ≤ 100), ∀ (x65 : Int) (e65 : x65 = idx (vv Θ38 x38) (32 : Int) 0) (r65 : -2147483648 ≤ x65 ∧ x65 < 2147483648), (∀ (c68 : 0 ≤ x65), W2_X19_identities_88 ω d G l0 l1 x23 (g + (x23 - (l2 + 1) + 5).toNat) Θ38 Q) ∧ (∀ (c68 : x65 < 0), ∀ (x75 : Int) (e75 : x75 = idx (vv Θ38 x38) (9 : Int) 0) (r75 : -2147483648 ≤ x75 ∧ x75 < 2147483648), (∀ (c78 : 0 ≤ x75), W2_X19_identities_88 ω d G l0 l1 x23 (g + (x23 - (l2 + 1) + 5).toNat) Θ38 Q) ∧ (∀ (c78 : x75 < 0), (kd Θ38 l1 = 3) ∧ (¬ fz Θ38 l1) ∧ (rf Θ38 x38) ∧ (adC (cp Θ38 l1) (len (vv Θ38 l1)) ≤ 60000000) ∧ (g + (x23 - (l2 + 1) + 5).toNat + (adC (cp Θ38 l1) (len (vv Θ38 l1)) - cp Θ38 l1).toNat ≤ G) ∧ ∀ (k84 : Int) (Θ84 : Th) (t84 : Θ84 = uq Θ38 l1 (3, vv Θ38 l1 ++ [x38], adC (cp Θ38 l1) (len (vv Θ38 l1)), k84)), W2_X19_identities_88 ω d G l0 l1 x23 (g + (x23 - (l2 + 1) + 5).toNat + (adC (cp Θ38 l1) (len (vv Θ38 l1)) - cp Θ38 l1).toNat) Θ84 Q))))) ∧ (∀ (c28 : x23 < 0), (-1 ≤ l1) ∧ Q l1 Θ))) : W2_X19_identities_15 ω d G l0 l1 l2 g Θ Q := sorry
set_option maxHeartbeats 4000000 in
theorem s2_X19_identities_88 {ω : AO} {d G : Nat} {l0 l1 l3 : Int} {g : Nat} {Θ : Th} {Q : Int → Th → Prop} (hB : (1 ≤ d) ∧ (kd Θ l0 = 2) ∧ (-2147483648 ≤ l3 ∧ l3 < 2147483648) ∧ (6 ≤ d) ∧ (g ≤ G) ∧ ∀ (x92 : Int) (e92 : x92 = idx (vv Θ l0) (60 : Int) l3) (r92 : -2147483648 ≤ x92 ∧ x92 < 2147483648), W2_X19_identities_15 ω d G l0 l1 x92 (g) Θ Q) : W2_X19_identities_88 ω d G l0 l1 l3 g Θ Q := sorry
def W2_X19_references_57 (ω : AO) (d G : Nat) (l1 : Int) (g : Nat) (Θ : Th) (Q : Int → Th → Prop) : Prop := Hid (SJ2 ω yX19_references cX19_references 2 (some (.object "java/util/ArrayList")) d G (fun Sz Θz => (eA Sz (q2 ω Θz Q))) 57 [vN, (2, l1)] [] g Θ)
def W2_X19_references_35 (ω : AO) (d G : Nat) (l1 : Int) (g : Nat) (Θ : Th) (Q : Int → Th → Prop) : Prop := Hid (SJ2 ω yX19_references cX19_references 2 (some (.object "java/util/ArrayList")) d G (fun Sz Θz => (eA Sz (q2 ω Θz Q))) 35 [vN, (2, l1)] [] g Θ)
set_option maxHeartbeats 4000000 in
theorem s2_X19_references {ω : AO} {d G : Nat} {l0 : Int} {Θ : Th} {Q : Int → Th → Prop} (hB : (kd Θ l0 = 32) ∧ ∀ (v1 : Int) (e1 : v1 = gt (vv Θ l0) 0) (r1 : -1 ≤ v1), ∀ (v4 : Int) (h4 : Str Θ v4 [114, 101, 102, 101, 114, 101, 110, 99, 101, 115]), (1 ≤ d) ∧ (kd Θ v1 = 33) ∧ ∃ G7 : Nat, (0 + G7 ≤ G) ∧ w2_X20_value ω (d - 1) G7 v1 v4 Θ (fun x7 Θ7 => ∀ (L7 : Le Θ Θ7) (r7 : -1 ≤ x7), ∃ G10 : Nat, (0 + G7 + G10 ≤ G) ∧ w2_X19_identities ω (d - 1) G10 x7 Θ7 (fun x10 Θ10 => ∀ (L10 : Le Θ7 Θ10) (r10 : -1 ≤ x10), (kd Θ10 x10 = 3) ∧ (0 + G7 + G10 ≤ G) ∧ ∀ (x15 : Int) (e15 : x15 = if vv Θ10 x10 = [] then 1 else 0) (r15 : x15 = 0 ∨ x15 = 1), (∀ (c18 : x15 = 0), W2_X19_references_57 ω d G x10 (0 + G7 + G10) Θ10 Q) ∧ (∀ (c18 : ¬ x15 = 0), ∀ (v22 : Int) (e22 : v22 = gt (vv Θ10 l0) 0) (r22 : -1 ≤ v22), ∀ (v25 : Int) (h25 : Str Θ10 v25 [105, 110, 45, 114, 101, 112, 108, 121, 45, 116, 111]), (kd Θ10 v22 = 33) ∧ ∃ G28 : Nat, (0 + G7 + G10 + G28 ≤ G) ∧ w2_X20_value ω (d - 1) G28 v22 v25 Θ10 (fun x28 Θ28 => ∀ (L28 : Le Θ10 Θ28) (r28 : -1 ≤ x28), ∃ G31 : Nat, (0 + G7 + G10 + G28 + G31 ≤ G) ∧ w2_X19_identities ω (d - 1) G31 x28 Θ28 (fun x31 Θ31 => ∀ (L31 : Le Θ28 Θ31) (r31 : -1 ≤ x31), W2_X19_references_35 ω d G x31 (0 + G7 + G10 + G28 + G31) Θ31 Q)))))) : w2_X19_references ω d G l0 Θ Q := sorry
set_option maxHeartbeats 4000000 in
theorem s2_X19_references_57 {ω : AO} {d G : Nat} {l1 : Int} {g : Nat} {Θ : Th} {Q : Int → Th → Prop} (hB : (1 ≤ d) ∧ (kd Θ l1 = 3) ∧ (g ≤ G) ∧ ∀ (x58 : Int) (e58 : x58 = len (vv Θ l1)) (r58 : -2147483648 ≤ x58 ∧ x58 < 2147483648), (∀ (c63 : x58 ≤ 8), (-1 ≤ l1) ∧ Q l1 Θ) ∧ (∀ (c63 : 8 < x58), (¬ fz Θ l1) ∧ (0 ≤ (0 : Int) ∧ (0 : Int) < len (vv Θ l1)) ∧ (3 ≤ d) ∧ ∀ (x68 : Int) (e68 : x68 = gt (vv Θ l1) (0 : Int)) (r68 : -1 ≤ x68), ∀ (k68 : Int) (Θ68 : Th) (t68 : Θ68 = uq Θ l1 (3, del (vv Θ l1) (0 : Int), cp Θ l1, k68)), W2_X19_references_57 ω d G l1 (g) Θ68 Q)) : W2_X19_references_57 ω d G l1 g Θ Q := sorry
set_option maxHeartbeats 4000000 in
theorem s2_X19_references_35 {ω : AO} {d G : Nat} {l1 : Int} {g : Nat} {Θ : Th} {Q : Int → Th → Prop} (hB : (1 ≤ d) ∧ (kd Θ l1 = 3) ∧ (g ≤ G) ∧ ∀ (x36 : Int) (e36 : x36 = len (vv Θ l1)) (r36 : -2147483648 ≤ x36 ∧ x36 < 2147483648), (∀ (c40 : x36 ≤ 1), W2_X19_references_57 ω d G l1 (g) Θ Q) ∧ (∀ (c40 : 1 < x36), ∀ (x45 : Int) (e45 : x45 = len (vv Θ l1)) (r45 : -2147483648 ≤ x45 ∧ x45 < 2147483648), (¬ fz Θ l1) ∧ (0 ≤ (x45 - 1) ∧ (x45 - 1) < len (vv Θ l1)) ∧ (3 ≤ d) ∧ ∀ (x50 : Int) (e50 : x50 = gt (vv Θ l1) (x45 - 1)) (r50 : -1 ≤ x50), ∀ (k50 : Int) (Θ50 : Th) (t50 : Θ50 = uq Θ l1 (3, del (vv Θ l1) (x45 - 1), cp Θ l1, k50)), W2_X19_references_35 ω d G l1 (g) Θ50 Q)) : W2_X19_references_35 ω d G l1 g Θ Q := sorry
set_option maxHeartbeats 4000000 in
theorem s2_X19_mailboxes {ω : AO} {d G : Nat} {l0 l1 : Int} {Θ : Th} {Q : Int → Th → Prop} (hB : (0 + 1 ≤ G) ∧ ∀ (v0 : Int) (Θ0 : Th) (u0 : nt Θ ≤ v0 ∧ 0 ≤ v0) (b0 : Bl Θ) (t0 : Θ0 = nu Θ v0 (39, [-1, -1, -1, 0, 0], 0, 0)), (1 ≤ d) ∧ ∃ G4 : Nat, (0 + 1 + G4 ≤ G) ∧ w2_X26_init ω (d - 1) G4 v0 Θ0 (fun Θ4 => ∀ (L4 : Le Θ0 Θ4), (0 + 1 + G4 + 1 ≤ G) ∧ ∀ (v9 : Int) (Θ9 : Th) (u9 : nt Θ4 ≤ v9 ∧ 0 ≤ v9) (b9 : Bl Θ4) (t9 : Θ9 = nu Θ4 v9 (40, [-1, -1, 0], 0, 0)), (kd Θ9 l0 = 32) ∧ ∀ (v14 : Int) (e14 : v14 = gt (vv Θ9 l0) 0) (r14 : -1 ≤ v14), (kd Θ9 v14 = 33) ∧ ∃ G18 : Nat, (0 + 1 + G4 + 1 + G18 ≤ G) ∧ w2_X20_value ω (d - 1) G18 v14 l1 Θ9 (fun x18 Θ18 => ∀ (L18 : Le Θ9 Θ18) (r18 : -1 ≤ x18), ∃ G21 : Nat, (0 + 1 + G4 + 1 + G18 + G21 ≤ G) ∧ w2_X27_init ω (d - 1) G21 v9 x18 Θ18 (fun Θ21 => ∀ (L21 : Le Θ18 Θ21), ∃ G24 : Nat, (0 + 1 + G4 + 1 + G18 + G21 + G24 ≤ G) ∧ w2_X27_all ω (d - 1) G24 v9 Θ21 (fun x24 Θ24 => ∀ (L24 : Le Θ21 Θ24) (r24 : -1 ≤ x24), ∃ G27 : Nat, (0 + 1 + G4 + 1 + G18 + G21 + G24 + G27 ≤ G) ∧ w2_X26_read ω (d - 1) G27 v0 x24 Θ24 (fun Θ27 => ∀ (L27 : Le Θ24 Θ27), ∀ (v31 : Int) (e31 : v31 = gt (vv Θ27 v0) 0) (r31 : -1 ≤ v31), (0 + 1 + G4 + 1 + G18 + G21 + G24 + G27 ≤ G) ∧ Q v31 Θ27)))))) : w2_X19_mailboxes ω d G l0 l1 Θ Q := sorry
def W2_X19_textOf_47 (ω : AO) (d G : Nat) (l1 l2 l3 : Int) (g : Nat) (Θ : Th) (Q : Int → Th → Prop) : Prop := Hid (SJ2 ω yX19_textOf cX19_textOf 9 (some (.object "MailWorks$Text")) d G (fun Sz Θz => (eA Sz (q2 ω Θz Q))) 47 [vN, (2, l1), (2, l2), (2, l3), vN, vN, vN, vN, vN] [] g Θ)
def W2_X19_textOf_76 (ω : AO) (d G : Nat) (l1 l2 l3 s0 : Int) (g : Nat) (Θ : Th) (Q : Int → Th → Prop) : Prop := Hid (SJ2 ω yX19_textOf cX19_textOf 9 (some (.object "MailWorks$Text")) d G (fun Sz Θz => (eA Sz (q2 ω Θz Q))) 76 [vN, (2, l1), (2, l2), (2, l3), vN, vN, vN, vN, vN] [(0, s0)] g Θ)
def W2_X19_textOf_102 (ω : AO) (d G : Nat) (l1 l3 l7 s0 s1 : Int) (g : Nat) (Θ : Th) (Q : Int → Th → Prop) : Prop := Hid (SJ2 ω yX19_textOf cX19_textOf 9 (some (.object "MailWorks$Text")) d G (fun Sz Θz => (eA Sz (q2 ω Θz Q))) 102 [vN, (2, l1), vN, (2, l3), vN, vN, vN, (2, l7), vN] [(0, s0), (2, s1)] g Θ)
set_option maxHeartbeats 4000000 in
theorem s2_X19_textOf {ω : AO} {d G : Nat} {l0 l1 l2 : Int} {Θ : Th} {Q : Int → Th → Prop} (hB : (kd Θ l0 = 32) ∧ ∀ (v1 : Int) (e1 : v1 = gt (vv Θ l0) 0) (r1 : -1 ≤ v1), (1 ≤ d) ∧ (kd Θ v1 = 33) ∧ ∃ G5 : Nat, (0 + G5 ≤ G) ∧ w2_X20_body ω (d - 1) G5 v1 l1 Θ (fun x5 Θ5 => ∀ (L5 : Le Θ Θ5) (r5 : -1 ≤ x5), ∃ G8 : Nat, (0 + G5 + G8 ≤ G) ∧ w2_X12_ints ω (d - 1) G8 x5 Θ5 (fun x8 Θ8 => ∀ (L8 : Le Θ5 Θ8) (r8 : -1 ≤ x8), (kd Θ8 l1 = 35) ∧ ∀ (v14 : Int) (e14 : v14 = gt (vv Θ8 l1) 10) (r14 : -1 ≤ v14), (kd Θ8 l2 = 16) ∧ ∃ G17 : Nat, (0 + G5 + G8 + G17 ≤ G) ∧ w2_X2_coding ω (d - 1) G17 l2 v14 Θ8 (fun x17 Θ17 => ∀ (L17 : Le Θ8 Θ17) (r17 : -1 ≤ x17), (∀ (c24 : x17 < 0), W2_X19_textOf_47 ω d G l1 l2 x8 (0 + G5 + G8 + G17) Θ17 Q) ∧ (∀ (c24 : 0 ≤ x17), (0 + G5 + G8 + G17 + 1 ≤ G) ∧ ∀ (v27 : Int) (Θ27 : Th) (u27 : nt Θ17 ≤ v27 ∧ 0 ≤ v27) (b27 : Bl Θ17) (t27 : Θ27 = nu Θ17 v27 (219, [], 0, 0)), (2 ≤ d) ∧ (0 + G5 + G8 + G17 + 1 + 3 ≤ G) ∧ ∀ (Θ31 : Th) (t31 : Θ31 = uq Θ27 v27 (19, [], 8, 0)), (((kd Θ31 x17 = 48) ∧ ∃ G41 : Nat, (0 + G5 + G8 + G17 + 1 + 3 + G41 ≤ G) ∧ w2_X40_read ω (d - 1) G41 x17 x8 v27 Θ31 (fun Θ41 => ∀ (L41 : Le Θ31 Θ41), W2_X19_textOf_47 ω d G l1 l2 v27 (0 + G5 + G8 + G17 + 1 + 3 + G41) Θ41 Q)) ∨ ((kd Θ31 x17 = 66) ∧ ∃ G41 : Nat, (0 + G5 + G8 + G17 + 1 + 3 + G41 ≤ G) ∧ w2_X38_read ω (d - 1) G41 x17 x8 v27 Θ31 (fun Θ41 => ∀ (L41 : Le Θ31 Θ41), W2_X19_textOf_47 ω d G l1 l2 v27 (0 + G5 + G8 + G17 + 1 + 3 + G41) Θ41 Q)) ∨ ((kd Θ31 x17 = 68) ∧ ∃ G41 : Nat, (0 + G5 + G8 + G17 + 1 + 3 + G41 ≤ G) ∧ w2_X40_read ω (d - 1) G41 x17 x8 v27 Θ31 (fun Θ41 => ∀ (L41 : Le Θ31 Θ41), W2_X19_textOf_47 ω d G l1 l2 v27 (0 + G5 + G8 + G17 + 1 + 3 + G41) Θ41 Q)))))))) : w2_X19_textOf ω d G l0 l1 l2 Θ Q := sorry
set_option maxHeartbeats 4000000 in
theorem s2_X19_textOf_47 {ω : AO} {d G : Nat} {l1 l2 l3 : Int} {g : Nat} {Θ : Th} {Q : Int → Th → Prop} (hB : (kd Θ l1 = 35) ∧ ∀ (v48 : Int) (e48 : v48 = gt (vv Θ l1) 12) (r48 : -1 ≤ v48), ∀ (v51 : Int) (h51 : Str Θ v51 [99, 104, 97, 114, 115, 101, 116]), (1 ≤ d) ∧ (kd Θ v48 = 37) ∧ ∃ G54 : Nat, (g + G54 ≤ G) ∧ w2_X24_find ω (d - 1) G54 v48 v51 Θ (fun x54 Θ54 => ∀ (L54 : Le Θ Θ54) (r54 : -1 ≤ x54), (∀ (c61 : 0 ≤ x54), (kd Θ54 x54 = 2) ∧ (len (vv Θ54 x54) ≤ 1000000) ∧ (10 ≤ d) ∧ (g + G54 + (5 * len (vv Θ54 x54) + 30).toNat ≤ G) ∧ ∀ (x70 : Int) (Θ70 : Th) (e70 : NewS Θ54 Θ70 x70 ((vv Θ54 x54).map lowB)), ∃ G73 : Nat, (g + G54 + (5 * len (vv Θ54 x54) + 30).toNat + G73 ≤ G) ∧ w2_X3_named ω (d - 1) G73 x70 Θ70 (fun x73 Θ73 => ∀ (L73 : Le Θ70 Θ73) (r73 : -2147483648 ≤ x73 ∧ x73 < 2147483648), W2_X19_textOf_76 ω d G l1 l2 l3 x73 (g + G54 + (5 * len (vv Θ54 x54) + 30).toNat + G73) Θ73 Q)) ∧ (∀ (c61 : x54 < 0), W2_X19_textOf_76 ω d G l1 l2 l3 ((-1)) (g + G54) Θ54 Q))) : W2_X19_textOf_47 ω d G l1 l2 l3 g Θ Q := sorry
set_option maxHeartbeats 4000000 in
theorem s2_X19_textOf_76 {ω : AO} {d G : Nat} {l1 l2 l3 s0 : Int} {g : Nat} {Θ : Th} {Q : Int → Th → Prop} (hB : (g + 1 ≤ G) ∧ ∀ (v78 : Int) (Θ78 : Th) (u78 : nt Θ ≤ v78 ∧ 0 ≤ v78) (b78 : Bl Θ) (t78 : Θ78 = nu Θ v78 (219, [], 0, 0)), (1 ≤ d) ∧ (2 ≤ d) ∧ (g + 1 + 3 ≤ G) ∧ ∀ (Θ82 : Th) (t82 : Θ82 = uq Θ78 v78 (19, [], 8, 0)), (kd Θ82 l2 = 16) ∧ ∀ (v88 : Int) (e88 : v88 = gt (vv Θ82 l2) 0) (r88 : -1 ≤ v88), (-2147483648 ≤ s0 ∧ s0 < 2147483648) ∧ (∀ (c93 : 0 ≤ s0), W2_X19_textOf_102 ω d G l1 l3 v78 s0 v88 (g + 1 + 3) Θ82 Q) ∧ (∀ (c93 : s0 < 0), W2_X19_textOf_102 ω d G l1 l3 v78 4 v88 (g + 1 + 3) Θ82 Q)) : W2_X19_textOf_76 ω d G l1 l2 l3 s0 g Θ Q := sorry
set_option maxHeartbeats 4000000 in
theorem s2_X19_textOf_102 {ω : AO} {d G : Nat} {l1 l3 l7 s0 s1 : Int} {g : Nat} {Θ : Th} {Q : Int → Th → Prop} (hB : (1 ≤ d) ∧ (kd Θ s1 = 17) ∧ ∃ G102 : Nat, (g + G102 ≤ G) ∧ w2_X3_at ω (d - 1) G102 s1 s0 Θ (fun x102 Θ102 => ∀ (L102 : Le Θ Θ102) (r102 : -1 ≤ x102), (((kd Θ102 x102 = 44) ∧ ∃ G108 : Nat, (g + G102 + G108 ≤ G) ∧ w2_X33_read ω (d - 1) G108 x102 l3 l7 Θ102 (fun Θ108 => ∀ (L108 : Le Θ102 Θ108), ∃ G113 : Nat, (g + G102 + G108 + G113 ≤ G) ∧ w2_X6_of ω (d - 1) G113 l7 Θ108 (fun x113 Θ113 => ∀ (L113 : Le Θ108 Θ113) (r113 : -1 ≤ x113), (kd Θ113 l1 = 35) ∧ ∀ (v119 : Int) (e119 : v119 = gt (vv Θ113 l1) 9) (r119 : -1 ≤ v119), ∀ (v122 : Int) (h122 : Str Θ113 v122 [116, 101, 120, 116, 47, 104, 116, 109, 108]), (kd Θ113 v119 = 2) ∧ (2 ≤ d) ∧ (g + G102 + G108 + G113 ≤ G) ∧ ∀ (x125 : Int) (e125 : x125 = if vv Θ113 v119 = vv Θ113 v122 then 1 else 0) (r125 : x125 = 0 ∨ x125 = 1), (∀ (c128 : x125 = 0), (-1 ≤ x113) ∧ Q x113 Θ113) ∧ (∀ (c128 : ¬ x125 = 0), (g + G102 + G108 + G113 + 1 ≤ G) ∧ ∀ (v131 : Int) (Θ131 : Th) (u131 : nt Θ113 ≤ v131 ∧ 0 ≤ v131) (b131 : Bl Θ113) (t131 : Θ131 = nu Θ113 v131 (49, [-1, -1, 0, 0], 0, 0)), ∃ G137 : Nat, (g + G102 + G108 + G113 + 1 + G137 ≤ G) ∧ w2_X43_init ω (d - 1) G137 v131 x113 Θ131 (fun Θ137 => ∀ (L137 : Le Θ131 Θ137), ∃ G140 : Nat, (g + G102 + G108 + G113 + 1 + G137 + G140 ≤ G) ∧ w2_X43_read ω (d - 1) G140 v131 Θ137 (fun x140 Θ140 => ∀ (L140 : Le Θ137 Θ140) (r140 : -1 ≤ x140), (g + G102 + G108 + G113 + 1 + G137 + G140 ≤ G) ∧ (-1 ≤ x140) ∧ Q x140 Θ140)))))) ∨ ((kd Θ102 x102 = 45) ∧ ∃ G108 : Nat, (g + G102 + G108 ≤ G) ∧ w2_X35_read ω (d - 1) G108 x102 l3 l7 Θ102 (fun Θ108 => ∀ (L108 : Le Θ102 Θ108), ∃ G113 : Nat, (g + G102 + G108 + G113 ≤ G) ∧ w2_X6_of ω (d - 1) G113 l7 Θ108 (fun x113 Θ113 => ∀ (L113 : Le Θ108 Θ113) (r113 : -1 ≤ x113), (kd Θ113 l1 = 35) ∧ ∀ (v119 : Int) (e119 : v119 = gt (vv Θ113 l1) 9) (r119 : -1 ≤ v119), ∀ (v122 : Int) (h122 : Str Θ113 v122 [116, 101, 120, 116, 47, 104, 116, 109, 108]), (kd Θ113 v119 = 2) ∧ (2 ≤ d) ∧ (g + G102 + G108 + G113 ≤ G) ∧ ∀ (x125 : Int) (e125 : x125 = if vv Θ113 v119 = vv Θ113 v122 then 1 else 0) (r125 : x125 = 0 ∨ x125 = 1), (∀ (c128 : x125 = 0), (-1 ≤ x113) ∧ Q x113 Θ113) ∧ (∀ (c128 : ¬ x125 = 0), (g + G102 + G108 + G113 + 1 ≤ G) ∧ ∀ (v131 : Int) (Θ131 : Th) (u131 : nt Θ113 ≤ v131 ∧ 0 ≤ v131) (b131 : Bl Θ113) (t131 : Θ131 = nu Θ113 v131 (49, [-1, -1, 0, 0], 0, 0)), ∃ G137 : Nat, (g + G102 + G108 + G113 + 1 + G137 ≤ G) ∧ w2_X43_init ω (d - 1) G137 v131 x113 Θ131 (fun Θ137 => ∀ (L137 : Le Θ131 Θ137), ∃ G140 : Nat, (g + G102 + G108 + G113 + 1 + G137 + G140 ≤ G) ∧ w2_X43_read ω (d - 1) G140 v131 Θ137 (fun x140 Θ140 => ∀ (L140 : Le Θ137 Θ140) (r140 : -1 ≤ x140), (g + G102 + G108 + G113 + 1 + G137 + G140 ≤ G) ∧ (-1 ≤ x140) ∧ Q x140 Θ140)))))) ∨ ((kd Θ102 x102 = 67) ∧ ∃ G108 : Nat, (g + G102 + G108 ≤ G) ∧ w2_X32_read ω (d - 1) G108 x102 l3 l7 Θ102 (fun Θ108 => ∀ (L108 : Le Θ102 Θ108), ∃ G113 : Nat, (g + G102 + G108 + G113 ≤ G) ∧ w2_X6_of ω (d - 1) G113 l7 Θ108 (fun x113 Θ113 => ∀ (L113 : Le Θ108 Θ113) (r113 : -1 ≤ x113), (kd Θ113 l1 = 35) ∧ ∀ (v119 : Int) (e119 : v119 = gt (vv Θ113 l1) 9) (r119 : -1 ≤ v119), ∀ (v122 : Int) (h122 : Str Θ113 v122 [116, 101, 120, 116, 47, 104, 116, 109, 108]), (kd Θ113 v119 = 2) ∧ (2 ≤ d) ∧ (g + G102 + G108 + G113 ≤ G) ∧ ∀ (x125 : Int) (e125 : x125 = if vv Θ113 v119 = vv Θ113 v122 then 1 else 0) (r125 : x125 = 0 ∨ x125 = 1), (∀ (c128 : x125 = 0), (-1 ≤ x113) ∧ Q x113 Θ113) ∧ (∀ (c128 : ¬ x125 = 0), (g + G102 + G108 + G113 + 1 ≤ G) ∧ ∀ (v131 : Int) (Θ131 : Th) (u131 : nt Θ113 ≤ v131 ∧ 0 ≤ v131) (b131 : Bl Θ113) (t131 : Θ131 = nu Θ113 v131 (49, [-1, -1, 0, 0], 0, 0)), ∃ G137 : Nat, (g + G102 + G108 + G113 + 1 + G137 ≤ G) ∧ w2_X43_init ω (d - 1) G137 v131 x113 Θ131 (fun Θ137 => ∀ (L137 : Le Θ131 Θ137), ∃ G140 : Nat, (g + G102 + G108 + G113 + 1 + G137 + G140 ≤ G) ∧ w2_X43_read ω (d - 1) G140 v131 Θ137 (fun x140 Θ140 => ∀ (L140 : Le Θ137 Θ140) (r140 : -1 ≤ x140), (g + G102 + G108 + G113 + 1 + G137 + G140 ≤ G) ∧ (-1 ≤ x140) ∧ Q x140 Θ140)))))) ∨ ((kd Θ102 x102 = 69) ∧ ∃ G108 : Nat, (g + G102 + G108 ≤ G) ∧ w2_X34_read ω (d - 1) G108 x102 l3 l7 Θ102 (fun Θ108 => ∀ (L108 : Le Θ102 Θ108), ∃ G113 : Nat, (g + G102 + G108 + G113 ≤ G) ∧ w2_X6_of ω (d - 1) G113 l7 Θ108 (fun x113 Θ113 => ∀ (L113 : Le Θ108 Θ113) (r113 : -1 ≤ x113), (kd Θ113 l1 = 35) ∧ ∀ (v119 : Int) (e119 : v119 = gt (vv Θ113 l1) 9) (r119 : -1 ≤ v119), ∀ (v122 : Int) (h122 : Str Θ113 v122 [116, 101, 120, 116, 47, 104, 116, 109, 108]), (kd Θ113 v119 = 2) ∧ (2 ≤ d) ∧ (g + G102 + G108 + G113 ≤ G) ∧ ∀ (x125 : Int) (e125 : x125 = if vv Θ113 v119 = vv Θ113 v122 then 1 else 0) (r125 : x125 = 0 ∨ x125 = 1), (∀ (c128 : x125 = 0), (-1 ≤ x113) ∧ Q x113 Θ113) ∧ (∀ (c128 : ¬ x125 = 0), (g + G102 + G108 + G113 + 1 ≤ G) ∧ ∀ (v131 : Int) (Θ131 : Th) (u131 : nt Θ113 ≤ v131 ∧ 0 ≤ v131) (b131 : Bl Θ113) (t131 : Θ131 = nu Θ113 v131 (49, [-1, -1, 0, 0], 0, 0)), ∃ G137 : Nat, (g + G102 + G108 + G113 + 1 + G137 ≤ G) ∧ w2_X43_init ω (d - 1) G137 v131 x113 Θ131 (fun Θ137 => ∀ (L137 : Le Θ131 Θ137), ∃ G140 : Nat, (g + G102 + G108 + G113 + 1 + G137 + G140 ≤ G) ∧ w2_X43_read ω (d - 1) G140 v131 Θ137 (fun x140 Θ140 => ∀ (L140 : Le Θ137 Θ140) (r140 : -1 ≤ x140), (g + G102 + G108 + G113 + 1 + G137 + G140 ≤ G) ∧ (-1 ≤ x140) ∧ Q x140 Θ140))))))))) : W2_X19_textOf_102 ω d G l1 l3 l7 s0 s1 g Θ Q := sorry
def W2_X19_source_64 (ω : AO) (d G : Nat) (l2 : Int) (g : Nat) (Θ : Th) (Q : Int → Th → Prop) : Prop := Hid (SJ2 ω yX19_source cX19_source 3 (some (.object "MailWorks$Text")) d G (fun Sz Θz => (eA Sz (q2 ω Θz Q))) 64 [vN, vN, (2, l2)] [] g Θ)
set_option maxHeartbeats 4000000 in
theorem s2_X19_source {ω : AO} {d G : Nat} {l0 l1 : Int} {Θ : Th} {Q : Int → Th → Prop} (hB : (0 + 1 ≤ G) ∧ ∀ (v0 : Int) (Θ0 : Th) (u0 : nt Θ ≤ v0 ∧ 0 ≤ v0) (b0 : Bl Θ) (t0 : Θ0 = nu Θ v0 (43, [-1, -1, -1], 0, 0)), (kd Θ0 l0 = 42) ∧ ∀ (v5 : Int) (e5 : v5 = gt (vv Θ0 l0) 0) (r5 : -1 ≤ v5), (kd Θ0 l1 = 16) ∧ ∀ (v9 : Int) (e9 : v9 = gt (vv Θ0 l1) 0) (r9 : -1 ≤ v9), (1 ≤ d) ∧ ∃ G12 : Nat, (0 + 1 + G12 ≤ G) ∧ w2_X30_init ω (d - 1) G12 v0 v5 v9 Θ0 (fun Θ12 => ∀ (L12 : Le Θ0 Θ12), ∃ G15 : Nat, (0 + 1 + G12 + G15 ≤ G) ∧ w2_X30_read ω (d - 1) G15 v0 Θ12 (fun x15 Θ15 => ∀ (L15 : Le Θ12 Θ15) (r15 : -1 ≤ x15), ∃ G21 : Nat, (0 + 1 + G12 + G15 + G21 ≤ G) ∧ w2_X6_of ω (d - 1) G21 x15 Θ15 (fun x21 Θ21 => ∀ (L21 : Le Θ15 Θ21) (r21 : -1 ≤ x21), (¬ fz Θ21 l0) ∧ (-1 ≤ x21) ∧ ∀ (Θ24 : Th) (t24 : Θ24 = pf Θ21 l0 3 x21), ∃ G30 : Nat, (0 + 1 + G12 + G15 + G21 + G30 ≤ G) ∧ w2_X29_address ω (d - 1) G30 l0 Θ24 (fun x30 Θ30 => ∀ (L30 : Le Θ24 Θ30) (r30 : -1 ≤ x30), ∃ G33 : Nat, (0 + 1 + G12 + G15 + G21 + G30 + G33 ≤ G) ∧ w2_X2_plain ω (d - 1) G33 l1 x30 Θ30 (fun x33 Θ33 => ∀ (L33 : Le Θ30 Θ33) (r33 : -1 ≤ x33), (¬ fz Θ33 l0) ∧ (-1 ≤ x33) ∧ ∀ (Θ36 : Th) (t36 : Θ36 = pf Θ33 l0 4 x33), (kd Θ36 x15 = 19) ∧ (¬ fz Θ36 x15) ∧ (rwC (cp Θ36 x15) (len (vv Θ36 x15)) ≤ 60000000) ∧ (3 ≤ d) ∧ (0 + 1 + G12 + G15 + G21 + G30 + G33 + (rwK (cp Θ36 x15) (len (vv Θ36 x15))).toNat ≤ G) ∧ ∀ (Θ42 : Th) (t42 : Θ42 = uq Θ36 x15 (19, vv Θ36 x15 ++ [(32 : Int)], rwC (cp Θ36 x15) (len (vv Θ36 x15)), cx Θ36 x15)), ∀ (v46 : Int) (e46 : v46 = gt (vv Θ42 l1) 0) (r46 : -1 ≤ v46), (kd Θ42 v46 = 17) ∧ ∃ G50 : Nat, (0 + 1 + G12 + G15 + G21 + G30 + G33 + (rwK (cp Θ36 x15) (len (vv Θ36 x15))).toNat + G50 ≤ G) ∧ w2_X3_at ω (d - 1) G50 v46 4 Θ42 (fun x50 Θ50 => ∀ (L50 : Le Θ42 Θ50) (r50 : -1 ≤ x50), ∃ G54 : Nat, (0 + 1 + G12 + G15 + G21 + G30 + G33 + (rwK (cp Θ36 x15) (len (vv Θ36 x15))).toNat + G50 + G54 ≤ G) ∧ w2_X29_address ω (d - 1) G54 l0 Θ50 (fun x54 Θ54 => ∀ (L54 : Le Θ50 Θ54) (r54 : -1 ≤ x54), ∃ G57 : Nat, (0 + 1 + G12 + G15 + G21 + G30 + G33 + (rwK (cp Θ36 x15) (len (vv Θ36 x15))).toNat + G50 + G54 + G57 ≤ G) ∧ w2_X12_ints ω (d - 1) G57 x54 Θ54 (fun x57 Θ57 => ∀ (L57 : Le Θ54 Θ57) (r57 : -1 ≤ x57), (((kd Θ57 x50 = 44) ∧ ∃ G61 : Nat, (0 + 1 + G12 + G15 + G21 + G30 + G33 + (rwK (cp Θ36 x15) (len (vv Θ36 x15))).toNat + G50 + G54 + G57 + G61 ≤ G) ∧ w2_X33_read ω (d - 1) G61 x50 x57 x15 Θ57 (fun Θ61 => ∀ (L61 : Le Θ57 Θ61), W2_X19_source_64 ω d G x15 (0 + 1 + G12 + G15 + G21 + G30 + G33 + (rwK (cp Θ36 x15) (len (vv Θ36 x15))).toNat + G50 + G54 + G57 + G61) Θ61 Q)) ∨ ((kd Θ57 x50 = 45) ∧ ∃ G61 : Nat, (0 + 1 + G12 + G15 + G21 + G30 + G33 + (rwK (cp Θ36 x15) (len (vv Θ36 x15))).toNat + G50 + G54 + G57 + G61 ≤ G) ∧ w2_X35_read ω (d - 1) G61 x50 x57 x15 Θ57 (fun Θ61 => ∀ (L61 : Le Θ57 Θ61), W2_X19_source_64 ω d G x15 (0 + 1 + G12 + G15 + G21 + G30 + G33 + (rwK (cp Θ36 x15) (len (vv Θ36 x15))).toNat + G50 + G54 + G57 + G61) Θ61 Q)) ∨ ((kd Θ57 x50 = 67) ∧ ∃ G61 : Nat, (0 + 1 + G12 + G15 + G21 + G30 + G33 + (rwK (cp Θ36 x15) (len (vv Θ36 x15))).toNat + G50 + G54 + G57 + G61 ≤ G) ∧ w2_X32_read ω (d - 1) G61 x50 x57 x15 Θ57 (fun Θ61 => ∀ (L61 : Le Θ57 Θ61), W2_X19_source_64 ω d G x15 (0 + 1 + G12 + G15 + G21 + G30 + G33 + (rwK (cp Θ36 x15) (len (vv Θ36 x15))).toNat + G50 + G54 + G57 + G61) Θ61 Q)) ∨ ((kd Θ57 x50 = 69) ∧ ∃ G61 : Nat, (0 + 1 + G12 + G15 + G21 + G30 + G33 + (rwK (cp Θ36 x15) (len (vv Θ36 x15))).toNat + G50 + G54 + G57 + G61 ≤ G) ∧ w2_X34_read ω (d - 1) G61 x50 x57 x15 Θ57 (fun Θ61 => ∀ (L61 : Le Θ57 Θ61), W2_X19_source_64 ω d G x15 (0 + 1 + G12 + G15 + G21 + G30 + G33 + (rwK (cp Θ36 x15) (len (vv Θ36 x15))).toNat + G50 + G54 + G57 + G61) Θ61 Q)))))))))))) : w2_X19_source ω d G l0 l1 Θ Q := sorry
set_option maxHeartbeats 4000000 in
theorem s2_X19_source_64 {ω : AO} {d G : Nat} {l2 : Int} {g : Nat} {Θ : Th} {Q : Int → Th → Prop} (hB : (1 ≤ d) ∧ (kd Θ l2 = 19) ∧ (¬ fz Θ l2) ∧ (rwC (cp Θ l2) (len (vv Θ l2)) ≤ 60000000) ∧ (3 ≤ d) ∧ (g + (rwK (cp Θ l2) (len (vv Θ l2))).toNat ≤ G) ∧ ∀ (Θ67 : Th) (t67 : Θ67 = uq Θ l2 (19, vv Θ l2 ++ [(32 : Int)], rwC (cp Θ l2) (len (vv Θ l2)), cx Θ l2)), ∃ G71 : Nat, (g + (rwK (cp Θ l2) (len (vv Θ l2))).toNat + G71 ≤ G) ∧ w2_X6_of ω (d - 1) G71 l2 Θ67 (fun x71 Θ71 => ∀ (L71 : Le Θ67 Θ71) (r71 : -1 ≤ x71), (g + (rwK (cp Θ l2) (len (vv Θ l2))).toNat + G71 ≤ G) ∧ (-1 ≤ x71) ∧ Q x71 Θ71)) : W2_X19_source_64 ω d G l2 g Θ Q := sorry
def W2_X19_enter_28 (ω : AO) (d G : Nat) (l2 l3 : Int) (g : Nat) (Θ : Th) (Q : Th → Prop) : Prop := Hid (SJ2 ω yX19_enter cX19_enter 4 none d G (fun Sz Θz => (eU Sz (q2U ω Θz Q))) 28 [vN, vN, (0, l2), (2, l3)] [] g Θ)
set_option maxHeartbeats 4000000 in
theorem s2_X19_enter {ω : AO} {d G : Nat} {l0 l1 l2 : Int} {Θ : Th} {Q : Th → Prop} (hB : (1 ≤ d) ∧ (kd Θ l0 = 30) ∧ ∃ G2 : Nat, (0 + G2 ≤ G) ∧ w2_X17_get ω (d - 1) G2 l0 l1 Θ (fun x2 Θ2 => ∀ (L2 : Le Θ Θ2) (r2 : -1 ≤ x2), (x2 < 0 ∨ kd Θ2 x2 ∈ [23]) ∧ (∀ (c10 : 0 ≤ x2), W2_X19_enter_28 ω d G l2 x2 (0 + G2) Θ2 Q) ∧ (∀ (c10 : x2 < 0), (0 + G2 + 1 ≤ G) ∧ ∀ (v13 : Int) (Θ13 : Th) (u13 : nt Θ2 ≤ v13 ∧ 0 ≤ v13) (b13 : Bl Θ2) (t13 : Θ13 = nu Θ2 v13 (223, [], 0, 0)), (2 ≤ d) ∧ (0 + G2 + 1 + 3 ≤ G) ∧ ∀ (Θ17 : Th) (t17 : Θ17 = uq Θ13 v13 (23, [], 8, 0)), ∃ G24 : Nat, (0 + G2 + 1 + 3 + G24 ≤ G) ∧ w2_X17_put ω (d - 1) G24 l0 l1 v13 Θ17 (fun x24 Θ24 => ∀ (L24 : Le Θ17 Θ24) (r24 : -1 ≤ x24), W2_X19_enter_28 ω d G l2 v13 (0 + G2 + 1 + 3 + G24) Θ24 Q)))) : w2_X19_enter ω d G l0 l1 l2 Θ Q := sorry
set_option maxHeartbeats 4000000 in
theorem s2_X19_enter_28 {ω : AO} {d G : Nat} {l2 l3 : Int} {g : Nat} {Θ : Th} {Q : Th → Prop} (hB : (-2147483648 ≤ l2 ∧ l2 < 2147483648) ∧ (1 ≤ d) ∧ (kd Θ l3 = 23) ∧ ∃ G31 : Nat, (g + G31 ≤ G) ∧ w2_X9_enter ω (d - 1) G31 l3 l2 Θ (fun Θ31 => ∀ (L31 : Le Θ Θ31), (g + G31 ≤ G) ∧ Q Θ31)) : W2_X19_enter_28 ω d G l2 l3 g Θ Q := sorry
def W2_X19_wordsOf_10 (ω : AO) (d G : Nat) (l0 l1 l2 : Int) (g : Nat) (Θ : Th) (Q : Int → Th → Prop) : Prop := Hid (SJ2 ω yX19_wordsOf cX19_wordsOf 6 (some (.object "MailWorks$Words")) d G (fun Sz Θz => (eA Sz (q2 ω Θz Q))) 10 [(2, l0), (2, l1), (0, l2), vN, vN, vN] [] g Θ)
def W2_X19_wordsOf_30 (ω : AO) (d G : Nat) (l0 l1 l2 l3 l4 : Int) (g : Nat) (Θ : Th) (Q : Int → Th → Prop) : Prop := Hid (SJ2 ω yX19_wordsOf cX19_wordsOf 6 (some (.object "MailWorks$Words")) d G (fun Sz Θz => (eA Sz (q2 ω Θz Q))) 30 [(2, l0), (2, l1), (0, l2), (2, l3), (0, l4), vN] [] g Θ)
def W2_X19_wordsOf_73 (ω : AO) (d G : Nat) (l0 l1 l2 l3 l4 l5 s0 s1 s2 : Int) (g : Nat) (Θ : Th) (Q : Int → Th → Prop) : Prop := Hid (SJ2 ω yX19_wordsOf cX19_wordsOf 6 (some (.object "MailWorks$Words")) d G (fun Sz Θz => (eA Sz (q2 ω Θz Q))) 73 [(2, l0), (2, l1), (0, l2), (2, l3), (0, l4), (2, l5)] [(2, s0), (2, s1), (2, s2)] g Θ)
def W2_X19_wordsOf_99 (ω : AO) (d G : Nat) (l0 l1 l2 l3 l4 l5 : Int) (g : Nat) (Θ : Th) (Q : Int → Th → Prop) : Prop := Hid (SJ2 ω yX19_wordsOf cX19_wordsOf 6 (some (.object "MailWorks$Words")) d G (fun Sz Θz => (eA Sz (q2 ω Θz Q))) 99 [(2, l0), (2, l1), (0, l2), (2, l3), (0, l4), (2, l5)] [] g Θ)
def W2_X19_wordsOf_143 (ω : AO) (d G : Nat) (l0 l1 l2 l3 l4 : Int) (g : Nat) (Θ : Th) (Q : Int → Th → Prop) : Prop := Hid (SJ2 ω yX19_wordsOf cX19_wordsOf 6 (some (.object "MailWorks$Words")) d G (fun Sz Θz => (eA Sz (q2 ω Θz Q))) 143 [(2, l0), (2, l1), (0, l2), (2, l3), (0, l4), vN] [] g Θ)
set_option maxHeartbeats 4000000 in
theorem s2_X19_wordsOf {ω : AO} {d G : Nat} {l0 : Int} {Θ : Th} {Q : Int → Th → Prop} (hB : (0 + 1 ≤ G) ∧ ∀ (v0 : Int) (Θ0 : Th) (u0 : nt Θ ≤ v0 ∧ 0 ≤ v0) (b0 : Bl Θ) (t0 : Θ0 = nu Θ v0 (30, [-1, -1], 0, 0)), (1 ≤ d) ∧ ∃ G4 : Nat, (0 + 1 + G4 ≤ G) ∧ w2_X17_init ω (d - 1) G4 v0 Θ0 (fun Θ4 => ∀ (L4 : Le Θ0 Θ4), W2_X19_wordsOf_10 ω d G l0 v0 0 (0 + 1 + G4) Θ4 Q)) : w2_X19_wordsOf ω d G l0 Θ Q := sorry
set_option maxHeartbeats 4000000 in
theorem s2_X19_wordsOf_10 {ω : AO} {d G : Nat} {l0 l1 l2 : Int} {g : Nat} {Θ : Th} {Q : Int → Th → Prop} (hB : (-2147483648 ≤ l2 ∧ l2 < 2147483648) ∧ (∀ (c12 : 5 ≤ l2), (g + 1 ≤ G) ∧ ∀ (v155 : Int) (Θ155 : Th) (u155 : nt Θ ≤ v155 ∧ 0 ≤ v155) (b155 : Bl Θ) (t155 : Θ155 = nu Θ v155 (53, [-1, -1], 0, 0)), (1 ≤ d) ∧ ∃ G160 : Nat, (g + 1 + G160 ≤ G) ∧ w2_X48_init ω (d - 1) G160 v155 l1 Θ155 (fun Θ160 => ∀ (L160 : Le Θ155 Θ160), (g + 1 + G160 ≤ G) ∧ Q v155 Θ160)) ∧ (∀ (c12 : l2 < 5), (1 ≤ d) ∧ (kd Θ l0 = 3) ∧ (0 ≤ l2 ∧ l2 < len (vv Θ l0)) ∧ (3 ≤ d) ∧ (g ≤ G) ∧ ∀ (x17 : Int) (e17 : x17 = gt (vv Θ l0) l2) (r17 : -1 ≤ x17), (x17 < 0 ∨ kd Θ x17 ∈ [50]) ∧ (kd Θ x17 = 50) ∧ ∀ (v23 : Int) (e23 : v23 = gt (vv Θ x17) 0) (r23 : -1 ≤ v23), W2_X19_wordsOf_30 ω d G l0 l1 l2 v23 0 (g) Θ Q)) : W2_X19_wordsOf_10 ω d G l0 l1 l2 g Θ Q := sorry
set_option maxHeartbeats 4000000 in
theorem s2_X19_wordsOf_30 {ω : AO} {d G : Nat} {l0 l1 l2 l3 l4 : Int} {g : Nat} {Θ : Th} {Q : Int → Th → Prop} (hB : (1 ≤ d) ∧ (kd Θ l3 = 3) ∧ (g ≤ G) ∧ ∀ (x33 : Int) (e33 : x33 = len (vv Θ l3)) (r33 : -2147483648 ≤ x33 ∧ x33 < 2147483648), (-2147483648 ≤ l4 ∧ l4 < 2147483648) ∧ (∀ (c36 : x33 ≤ l4), W2_X19_wordsOf_10 ω d G l0 l1 ((l2 + 1)) (g) Θ Q) ∧ (∀ (c36 : l4 < x33), (0 ≤ l4 ∧ l4 < len (vv Θ l3)) ∧ (3 ≤ d) ∧ ∀ (x42 : Int) (e42 : x42 = gt (vv Θ l3) l4) (r42 : -1 ≤ x42), (x42 < 0 ∨ kd Θ x42 ∈ [51]) ∧ (g + 1 ≤ G) ∧ ∀ (v51 : Int) (Θ51 : Th) (u51 : nt Θ ≤ v51 ∧ 0 ≤ v51) (b51 : Bl Θ) (t51 : Θ51 = nu Θ v51 (201, [], 0, 0)), (g + 1 + 5 ≤ G) ∧ ∀ (Θ55 : Th) (t55 : Θ55 = uq Θ51 v51 (1, [], 16, 0)), (kd Θ55 x42 = 51) ∧ ∃ G60 : Nat, (g + 1 + 5 + G60 ≤ G) ∧ w2_X46_isAddress ω (d - 1) G60 x42 Θ55 (fun x60 Θ60 => ∀ (L60 : Le Θ55 Θ60) (r60 : x60 = 0 ∨ x60 = 1), (∀ (c63 : x60 = 0), ∀ (v71 : Int) (h71 : Str Θ60 v71 [112]), W2_X19_wordsOf_73 ω d G l0 l1 l2 l3 l4 x42 v71 v51 l1 (g + 1 + 5 + G60) Θ60 Q) ∧ (∀ (c63 : ¬ x60 = 0), ∀ (v66 : Int) (h66 : Str Θ60 v66 [97]), W2_X19_wordsOf_73 ω d G l0 l1 l2 l3 l4 x42 v66 v51 l1 (g + 1 + 5 + G60) Θ60 Q)))) : W2_X19_wordsOf_30 ω d G l0 l1 l2 l3 l4 g Θ Q := sorry
set_option maxHeartbeats 4000000 in
theorem s2_X19_wordsOf_73 {ω : AO} {d G : Nat} {l0 l1 l2 l3 l4 l5 s0 s1 s2 : Int} {g : Nat} {Θ : Th} {Q : Int → Th → Prop} (hB : (1 ≤ d) ∧ (kd Θ s1 = 1) ∧ (kd Θ s0 = 2) ∧ (¬ fz Θ s1) ∧ (bC (cp Θ s1) (len (vv Θ s1) + len (vv Θ s0)) ≤ 20000000) ∧ (11 ≤ d) ∧ (g + (bK (bC (cp Θ s1) (len (vv Θ s1) + len (vv Θ s0))) (max (cx Θ s1) (wide (vv Θ s0))) - bK (cp Θ s1) (cx Θ s1)).toNat ≤ G) ∧ ∀ (Θ73 : Th) (t73 : Θ73 = uq Θ s1 (1, vv Θ s1 ++ vv Θ s0, bC (cp Θ s1) (len (vv Θ s1) + len (vv Θ s0)), max (cx Θ s1) (wide (vv Θ s0)))), ∃ G77 : Nat, (g + (bK (bC (cp Θ s1) (len (vv Θ s1) + len (vv Θ s0))) (max (cx Θ s1) (wide (vv Θ s0))) - bK (cp Θ s1) (cx Θ s1)).toNat + G77 ≤ G) ∧ w2_J1_append_2 ω (d - 1) G77 s1 l2 Θ73 (fun x77 Θ77 => ∀ (L77 : Le Θ73 Θ77) (r77 : -1 ≤ x77), (kd Θ77 l5 = 51) ∧ ∃ G82 : Nat, (g + (bK (bC (cp Θ s1) (len (vv Θ s1) + len (vv Θ s0))) (max (cx Θ s1) (wide (vv Θ s0))) - bK (cp Θ s1) (cx Θ s1)).toNat + G77 + G82 ≤ G) ∧ w2_X46_text ω (d - 1) G82 l5 Θ77 (fun x82 Θ82 => ∀ (L82 : Le Θ77 Θ82) (r82 : -1 ≤ x82), (kd Θ82 x77 = 1) ∧ (kd Θ82 x82 = 2) ∧ (¬ fz Θ82 x77) ∧ (bC (cp Θ82 x77) (len (vv Θ82 x77) + len (vv Θ82 x82)) ≤ 20000000) ∧ (g + (bK (bC (cp Θ s1) (len (vv Θ s1) + len (vv Θ s0))) (max (cx Θ s1) (wide (vv Θ s0))) - bK (cp Θ s1) (cx Θ s1)).toNat + G77 + G82 + (bK (bC (cp Θ82 x77) (len (vv Θ82 x77) + len (vv Θ82 x82))) (max (cx Θ82 x77) (wide (vv Θ82 x82))) - bK (cp Θ82 x77) (cx Θ82 x77)).toNat ≤ G) ∧ ∀ (Θ85 : Th) (t85 : Θ85 = uq Θ82 x77 (1, vv Θ82 x77 ++ vv Θ82 x82, bC (cp Θ82 x77) (len (vv Θ82 x77) + len (vv Θ82 x82)), max (cx Θ82 x77) (wide (vv Θ82 x82)))), (len (vv Θ85 x77) ≤ 15000000) ∧ (8 ≤ d) ∧ (g + (bK (bC (cp Θ s1) (len (vv Θ s1) + len (vv Θ s0))) (max (cx Θ s1) (wide (vv Θ s0))) - bK (cp Θ s1) (cx Θ s1)).toNat + G77 + G82 + (bK (bC (cp Θ82 x77) (len (vv Θ82 x77) + len (vv Θ82 x82))) (max (cx Θ82 x77) (wide (vv Θ82 x82))) - bK (cp Θ82 x77) (cx Θ82 x77)).toNat + (len (vv Θ85 x77) + 5).toNat ≤ G) ∧ ∀ (x88 : Int) (Θ88 : Th) (e88 : NewS Θ85 Θ88 x88 (vv Θ85 x77)) (n88 : nt Θ85 ≤ x88), ∃ G93 : Nat, (g + (bK (bC (cp Θ s1) (len (vv Θ s1) + len (vv Θ s0))) (max (cx Θ s1) (wide (vv Θ s0))) - bK (cp Θ s1) (cx Θ s1)).toNat + G77 + G82 + (bK (bC (cp Θ82 x77) (len (vv Θ82 x77) + len (vv Θ82 x82))) (max (cx Θ82 x77) (wide (vv Θ82 x82))) - bK (cp Θ82 x77) (cx Θ82 x77)).toNat + (len (vv Θ85 x77) + 5).toNat + G93 ≤ G) ∧ w2_X46_place ω (d - 1) G93 l5 Θ88 (fun x93 Θ93 => ∀ (L93 : Le Θ88 Θ93) (r93 : -2147483648 ≤ x93 ∧ x93 < 2147483648), ∃ G96 : Nat, (g + (bK (bC (cp Θ s1) (len (vv Θ s1) + len (vv Θ s0))) (max (cx Θ s1) (wide (vv Θ s0))) - bK (cp Θ s1) (cx Θ s1)).toNat + G77 + G82 + (bK (bC (cp Θ82 x77) (len (vv Θ82 x77) + len (vv Θ82 x82))) (max (cx Θ82 x77) (wide (vv Θ82 x82))) - bK (cp Θ82 x77) (cx Θ82 x77)).toNat + (len (vv Θ85 x77) + 5).toNat + G93 + G96 ≤ G) ∧ w2_X19_enter ω (d - 1) G96 s2 x88 x93 Θ93 (fun Θ96 => ∀ (L96 : Le Θ93 Θ96), W2_X19_wordsOf_99 ω d G l0 l1 l2 l3 l4 l5 (g + (bK (bC (cp Θ s1) (len (vv Θ s1) + len (vv Θ s0))) (max (cx Θ s1) (wide (vv Θ s0))) - bK (cp Θ s1) (cx Θ s1)).toNat + G77 + G82 + (bK (bC (cp Θ82 x77) (len (vv Θ82 x77) + len (vv Θ82 x82))) (max (cx Θ82 x77) (wide (vv Θ82 x82))) - bK (cp Θ82 x77) (cx Θ82 x77)).toNat + (len (vv Θ85 x77) + 5).toNat + G93 + G96) Θ96 Q))))) : W2_X19_wordsOf_73 ω d G l0 l1 l2 l3 l4 l5 s0 s1 s2 g Θ Q := sorry
set_option maxHeartbeats 4000000 in
theorem s2_X19_wordsOf_99 {ω : AO} {d G : Nat} {l0 l1 l2 l3 l4 l5 : Int} {g : Nat} {Θ : Th} {Q : Int → Th → Prop} (hB : (1 ≤ d) ∧ (kd Θ l5 = 51) ∧ ∃ G101 : Nat, (g + G101 ≤ G) ∧ w2_X46_isAddress ω (d - 1) G101 l5 Θ (fun x101 Θ101 => ∀ (L101 : Le Θ Θ101) (r101 : x101 = 0 ∨ x101 = 1), (∀ (c104 : ¬ x101 = 0), W2_X19_wordsOf_30 ω d G l0 l1 l2 l3 ((l4 + 1)) (g + G101) Θ101 Q) ∧ (∀ (c104 : x101 = 0), (g + G101 + 1 ≤ G) ∧ ∀ (v108 : Int) (Θ108 : Th) (u108 : nt Θ101 ≤ v108 ∧ 0 ≤ v108) (b108 : Bl Θ101) (t108 : Θ108 = nu Θ101 v108 (201, [], 0, 0)), (3 ≤ d) ∧ (g + G101 + 1 + 5 ≤ G) ∧ ∀ (Θ112 : Th) (t112 : Θ112 = uq Θ108 v108 (1, [], 16, 0)), ∀ (v115 : Int) (h115 : Str Θ112 v115 [115]), (¬ fz Θ112 v108) ∧ (bC (cp Θ112 v108) (len (vv Θ112 v108) + len (vv Θ112 v115)) ≤ 20000000) ∧ (11 ≤ d) ∧ (g + G101 + 1 + 5 + (bK (bC (cp Θ112 v108) (len (vv Θ112 v108) + len (vv Θ112 v115))) (max (cx Θ112 v108) (wide (vv Θ112 v115))) - bK (cp Θ112 v108) (cx Θ112 v108)).toNat ≤ G) ∧ ∀ (Θ117 : Th) (t117 : Θ117 = uq Θ112 v108 (1, vv Θ112 v108 ++ vv Θ112 v115, bC (cp Θ112 v108) (len (vv Θ112 v108) + len (vv Θ112 v115)), max (cx Θ112 v108) (wide (vv Θ112 v115)))), ∃ G121 : Nat, (g + G101 + 1 + 5 + (bK (bC (cp Θ112 v108) (len (vv Θ112 v108) + len (vv Θ112 v115))) (max (cx Θ112 v108) (wide (vv Θ112 v115))) - bK (cp Θ112 v108) (cx Θ112 v108)).toNat + G121 ≤ G) ∧ w2_J1_append_2 ω (d - 1) G121 v108 l2 Θ117 (fun x121 Θ121 => ∀ (L121 : Le Θ117 Θ121) (r121 : -1 ≤ x121), ∃ G126 : Nat, (g + G101 + 1 + 5 + (bK (bC (cp Θ112 v108) (len (vv Θ112 v108) + len (vv Θ112 v115))) (max (cx Θ112 v108) (wide (vv Θ112 v115))) - bK (cp Θ112 v108) (cx Θ112 v108)).toNat + G121 + G126 ≤ G) ∧ w2_X46_stem ω (d - 1) G126 l5 Θ121 (fun x126 Θ126 => ∀ (L126 : Le Θ121 Θ126) (r126 : -1 ≤ x126), (kd Θ126 x121 = 1) ∧ (kd Θ126 x126 = 2) ∧ (¬ fz Θ126 x121) ∧ (bC (cp Θ126 x121) (len (vv Θ126 x121) + len (vv Θ126 x126)) ≤ 20000000) ∧ (g + G101 + 1 + 5 + (bK (bC (cp Θ112 v108) (len (vv Θ112 v108) + len (vv Θ112 v115))) (max (cx Θ112 v108) (wide (vv Θ112 v115))) - bK (cp Θ112 v108) (cx Θ112 v108)).toNat + G121 + G126 + (bK (bC (cp Θ126 x121) (len (vv Θ126 x121) + len (vv Θ126 x126))) (max (cx Θ126 x121) (wide (vv Θ126 x126))) - bK (cp Θ126 x121) (cx Θ126 x121)).toNat ≤ G) ∧ ∀ (Θ129 : Th) (t129 : Θ129 = uq Θ126 x121 (1, vv Θ126 x121 ++ vv Θ126 x126, bC (cp Θ126 x121) (len (vv Θ126 x121) + len (vv Θ126 x126)), max (cx Θ126 x121) (wide (vv Θ126 x126)))), (len (vv Θ129 x121) ≤ 15000000) ∧ (8 ≤ d) ∧ (g + G101 + 1 + 5 + (bK (bC (cp Θ112 v108) (len (vv Θ112 v108) + len (vv Θ112 v115))) (max (cx Θ112 v108) (wide (vv Θ112 v115))) - bK (cp Θ112 v108) (cx Θ112 v108)).toNat + G121 + G126 + (bK (bC (cp Θ126 x121) (len (vv Θ126 x121) + len (vv Θ126 x126))) (max (cx Θ126 x121) (wide (vv Θ126 x126))) - bK (cp Θ126 x121) (cx Θ126 x121)).toNat + (len (vv Θ129 x121) + 5).toNat ≤ G) ∧ ∀ (x132 : Int) (Θ132 : Th) (e132 : NewS Θ129 Θ132 x132 (vv Θ129 x121)) (n132 : nt Θ129 ≤ x132), ∃ G137 : Nat, (g + G101 + 1 + 5 + (bK (bC (cp Θ112 v108) (len (vv Θ112 v108) + len (vv Θ112 v115))) (max (cx Θ112 v108) (wide (vv Θ112 v115))) - bK (cp Θ112 v108) (cx Θ112 v108)).toNat + G121 + G126 + (bK (bC (cp Θ126 x121) (len (vv Θ126 x121) + len (vv Θ126 x126))) (max (cx Θ126 x121) (wide (vv Θ126 x126))) - bK (cp Θ126 x121) (cx Θ126 x121)).toNat + (len (vv Θ129 x121) + 5).toNat + G137 ≤ G) ∧ w2_X46_place ω (d - 1) G137 l5 Θ132 (fun x137 Θ137 => ∀ (L137 : Le Θ132 Θ137) (r137 : -2147483648 ≤ x137 ∧ x137 < 2147483648), ∃ G140 : Nat, (g + G101 + 1 + 5 + (bK (bC (cp Θ112 v108) (len (vv Θ112 v108) + len (vv Θ112 v115))) (max (cx Θ112 v108) (wide (vv Θ112 v115))) - bK (cp Θ112 v108) (cx Θ112 v108)).toNat + G121 + G126 + (bK (bC (cp Θ126 x121) (len (vv Θ126 x121) + len (vv Θ126 x126))) (max (cx Θ126 x121) (wide (vv Θ126 x126))) - bK (cp Θ126 x121) (cx Θ126 x121)).toNat + (len (vv Θ129 x121) + 5).toNat + G137 + G140 ≤ G) ∧ w2_X19_enter ω (d - 1) G140 l1 x132 x137 Θ137 (fun Θ140 => ∀ (L140 : Le Θ137 Θ140), W2_X19_wordsOf_143 ω d G l0 l1 l2 l3 l4 (g + G101 + 1 + 5 + (bK (bC (cp Θ112 v108) (len (vv Θ112 v108) + len (vv Θ112 v115))) (max (cx Θ112 v108) (wide (vv Θ112 v115))) - bK (cp Θ112 v108) (cx Θ112 v108)).toNat + G121 + G126 + (bK (bC (cp Θ126 x121) (len (vv Θ126 x121) + len (vv Θ126 x126))) (max (cx Θ126 x121) (wide (vv Θ126 x126))) - bK (cp Θ126 x121) (cx Θ126 x121)).toNat + (len (vv Θ129 x121) + 5).toNat + G137 + G140) Θ140 Q))))))) : W2_X19_wordsOf_99 ω d G l0 l1 l2 l3 l4 l5 g Θ Q := sorry
set_option maxHeartbeats 4000000 in
theorem s2_X19_wordsOf_143 {ω : AO} {d G : Nat} {l0 l1 l2 l3 l4 : Int} {g : Nat} {Θ : Th} {Q : Int → Th → Prop} (hB : W2_X19_wordsOf_30 ω d G l0 l1 l2 l3 ((l4 + 1)) (g) Θ Q) : W2_X19_wordsOf_143 ω d G l0 l1 l2 l3 l4 g Θ Q := sorry
def W2_X19_init_83 (ω : AO) (d G : Nat) (l0 l2 : Int) (g : Nat) (Θ : Th) (Q : Th → Prop) : Prop := Hid (SJ2 ω yX19_init cX19_init 5 none d G (fun Sz Θz => (eU Sz (q2U ω Θz Q))) 83 [(2, l0), vN, (2, l2), vN, vN] [] g Θ)
def W2_X19_init_134 (ω : AO) (d G : Nat) (l0 l2 : Int) (g : Nat) (Θ : Th) (Q : Th → Prop) : Prop := Hid (SJ2 ω yX19_init cX19_init 5 none d G (fun Sz Θz => (eU Sz (q2U ω Θz Q))) 134 [(2, l0), vN, (2, l2), vN, vN] [] g Θ)
def W2_X19_init_145 (ω : AO) (d G : Nat) (l0 l2 l3 : Int) (g : Nat) (Θ : Th) (Q : Th → Prop) : Prop := Hid (SJ2 ω yX19_init cX19_init 5 none d G (fun Sz Θz => (eU Sz (q2U ω Θz Q))) 145 [(2, l0), vN, (2, l2), (2, l3), vN] [] g Θ)
def W2_X19_init_185 (ω : AO) (d G : Nat) (l0 l2 l3 : Int) (g : Nat) (Θ : Th) (Q : Th → Prop) : Prop := Hid (SJ2 ω yX19_init cX19_init 5 none d G (fun Sz Θz => (eU Sz (q2U ω Θz Q))) 185 [(2, l0), vN, (2, l2), (0, l3), vN] [] g Θ)
def W2_X19_init_226 (ω : AO) (d G : Nat) (l0 l2 l3 : Int) (g : Nat) (Θ : Th) (Q : Th → Prop) : Prop := Hid (SJ2 ω yX19_init cX19_init 5 none d G (fun Sz Θz => (eU Sz (q2U ω Θz Q))) 226 [(2, l0), vN, (2, l2), (2, l3), vN] [] g Θ)
def W2_X19_init_278 (ω : AO) (d G : Nat) (l0 l2 l3 : Int) (g : Nat) (Θ : Th) (Q : Th → Prop) : Prop := Hid (SJ2 ω yX19_init cX19_init 5 none d G (fun Sz Θz => (eU Sz (q2U ω Θz Q))) 278 [(2, l0), vN, (2, l2), (2, l3), vN] [] g Θ)
def W2_X19_init_333 (ω : AO) (d G : Nat) (l0 l2 l3 : Int) (g : Nat) (Θ : Th) (Q : Th → Prop) : Prop := Hid (SJ2 ω yX19_init cX19_init 5 none d G (fun Sz Θz => (eU Sz (q2U ω Θz Q))) 333 [(2, l0), vN, (2, l2), (2, l3), vN] [] g Θ)
def W2_X19_init_400 (ω : AO) (d G : Nat) (l0 l2 l3 : Int) (g : Nat) (Θ : Th) (Q : Th → Prop) : Prop := Hid (SJ2 ω yX19_init cX19_init 5 none d G (fun Sz Θz => (eU Sz (q2U ω Θz Q))) 400 [(2, l0), vN, (2, l2), (2, l3), vN] [] g Θ)
def W2_X19_init_451 (ω : AO) (d G : Nat) (l0 l2 l3 : Int) (g : Nat) (Θ : Th) (Q : Th → Prop) : Prop := Hid (SJ2 ω yX19_init cX19_init 5 none d G (fun Sz Θz => (eU Sz (q2U ω Θz Q))) 451 [(2, l0), vN, (2, l2), (2, l3), vN] [] g Θ)
set_option maxHeartbeats 4000000 in
theorem s2_X19_init {ω : AO} {d G : Nat} {l0 l1 l2 : Int} {Θ : Th} {Q : Th → Prop} (hB : (1 ≤ d) ∧ (0 ≤ l0) ∧ (0 + 1 ≤ G) ∧ ∀ (v5 : Int) (Θ5 : Th) (u5 : nt Θ ≤ v5 ∧ 0 ≤ v5) (b5 : Bl Θ) (t5 : Θ5 = nu Θ v5 (203, [], 0, 0)), (4 ≤ d) ∧ ∀ (k9 : Int) (Θ9 : Th) (t9 : Θ9 = uq Θ5 v5 (3, [], 0, k9)), (kd Θ9 l0 = 32) ∧ (¬ fz Θ9 l0) ∧ ∀ (Θ12 : Th) (t12 : Θ12 = pf Θ9 l0 3 v5), (0 + 1 + 1 ≤ G) ∧ ∀ (v16 : Int) (Θ16 : Th) (u16 : nt Θ12 ≤ v16 ∧ 0 ≤ v16) (b16 : Bl Θ12) (t16 : Θ16 = nu Θ12 v16 (203, [], 0, 0)), ∀ (k20 : Int) (Θ20 : Th) (t20 : Θ20 = uq Θ16 v16 (3, [], 0, k20)), (¬ fz Θ20 l0) ∧ ∀ (Θ23 : Th) (t23 : Θ23 = pf Θ20 l0 4 v16), (0 + 1 + 1 + 1 ≤ G) ∧ ∀ (v27 : Int) (Θ27 : Th) (u27 : nt Θ23 ≤ v27 ∧ 0 ≤ v27) (b27 : Bl Θ23) (t27 : Θ27 = nu Θ23 v27 (203, [], 0, 0)), ∀ (k31 : Int) (Θ31 : Th) (t31 : Θ31 = uq Θ27 v27 (3, [], 0, k31)), (¬ fz Θ31 l0) ∧ ∀ (Θ34 : Th) (t34 : Θ34 = pf Θ31 l0 6 v27), (0 + 1 + 1 + 1 + 1 ≤ G) ∧ ∀ (v38 : Int) (Θ38 : Th) (u38 : nt Θ34 ≤ v38 ∧ 0 ≤ v38) (b38 : Bl Θ34) (t38 : Θ38 = nu Θ34 v38 (33, [-1, -1, -1, -1], 0, 0)), ∃ G43 : Nat, (0 + 1 + 1 + 1 + 1 + G43 ≤ G) ∧ w2_X20_init ω (d - 1) G43 v38 l1 Θ38 (fun Θ43 => ∀ (L43 : Le Θ38 Θ43), (¬ fz Θ43 l0) ∧ ∀ (Θ46 : Th) (t46 : Θ46 = pf Θ43 l0 0 v38), ∀ (v51 : Int) (h51 : Str Θ46 v51 [102, 114, 111, 109]), ∃ G53 : Nat, (0 + 1 + 1 + 1 + 1 + G43 + G53 ≤ G) ∧ w2_X19_mailboxes ω (d - 1) G53 l0 v51 Θ46 (fun x53 Θ53 => ∀ (L53 : Le Θ46 Θ53) (r53 : -1 ≤ x53), (¬ fz Θ53 l0) ∧ (-1 ≤ x53) ∧ ∀ (Θ56 : Th) (t56 : Θ56 = pf Θ53 l0 1 x53), ∀ (v61 : Int) (h61 : Str Θ56 v61 [116, 111]), ∃ G63 : Nat, (0 + 1 + 1 + 1 + 1 + G43 + G53 + G63 ≤ G) ∧ w2_X19_mailboxes ω (d - 1) G63 l0 v61 Θ56 (fun x63 Θ63 => ∀ (L63 : Le Θ56 Θ63) (r63 : -1 ≤ x63), (¬ fz Θ63 l0) ∧ (-1 ≤ x63) ∧ ∀ (Θ66 : Th) (t66 : Θ66 = pf Θ63 l0 2 x63), ∀ (v70 : Int) (e70 : v70 = gt (vv Θ66 l0) 2) (r70 : -1 ≤ v70), ∀ (v74 : Int) (h74 : Str Θ66 v74 [99, 99]), ∃ G76 : Nat, (0 + 1 + 1 + 1 + 1 + G43 + G53 + G63 + G76 ≤ G) ∧ w2_X19_mailboxes ω (d - 1) G76 l0 v74 Θ66 (fun x76 Θ76 => ∀ (L76 : Le Θ66 Θ76) (r76 : -1 ≤ x76), (kd Θ76 v70 = 3) ∧ ∃ G79 : Nat, (0 + 1 + 1 + 1 + 1 + G43 + G53 + G63 + G76 + G79 ≤ G) ∧ w2_J7_addAll ω (d - 1) G79 v70 x76 Θ76 (fun x79 Θ79 => ∀ (L79 : Le Θ76 Θ79) (r79 : x79 = 0 ∨ x79 = 1), W2_X19_init_83 ω d G l0 l2 (0 + 1 + 1 + 1 + 1 + G43 + G53 + G63 + G76 + G79) Θ79 Q)))))) : w2_X19_init ω d G l0 l1 l2 Θ Q := sorry
set_option maxHeartbeats 4000000 in
theorem s2_X19_init_83 {ω : AO} {d G : Nat} {l0 l2 : Int} {g : Nat} {Θ : Th} {Q : Th → Prop} (hB : (kd Θ l0 = 32) ∧ ∀ (v86 : Int) (e86 : v86 = gt (vv Θ l0) 0) (r86 : -1 ≤ v86), ∀ (v89 : Int) (h89 : Str Θ v89 [115, 117, 98, 106, 101, 99, 116]), (1 ≤ d) ∧ (kd Θ v86 = 33) ∧ ∃ G91 : Nat, (g + G91 ≤ G) ∧ w2_X20_value ω (d - 1) G91 v86 v89 Θ (fun x91 Θ91 => ∀ (L91 : Le Θ Θ91) (r91 : -1 ≤ x91), (kd Θ91 l2 = 16) ∧ ∃ G94 : Nat, (g + G91 + G94 ≤ G) ∧ w2_X2_encoded ω (d - 1) G94 l2 x91 Θ91 (fun x94 Θ94 => ∀ (L94 : Le Θ91 Θ94) (r94 : -1 ≤ x94), (¬ fz Θ94 l0) ∧ (-1 ≤ x94) ∧ ∀ (Θ97 : Th) (t97 : Θ97 = pf Θ94 l0 7 x94), (g + G91 + G94 + 1 ≤ G) ∧ ∀ (v101 : Int) (Θ101 : Th) (u101 : nt Θ97 ≤ v101 ∧ 0 ≤ v101) (b101 : Bl Θ97) (t101 : Θ101 = nu Θ97 v101 (47, [-1, -1, 0], 0, 0)), ∀ (v106 : Int) (e106 : v106 = gt (vv Θ101 l0) 0) (r106 : -1 ≤ v106), ∀ (v109 : Int) (h109 : Str Θ101 v109 [100, 97, 116, 101]), (kd Θ101 v106 = 33) ∧ ∃ G111 : Nat, (g + G91 + G94 + 1 + G111 ≤ G) ∧ w2_X20_value ω (d - 1) G111 v106 v109 Θ101 (fun x111 Θ111 => ∀ (L111 : Le Θ101 Θ111) (r111 : -1 ≤ x111), ∃ G114 : Nat, (g + G91 + G94 + 1 + G111 + G114 ≤ G) ∧ w2_X1_withoutComments ω (d - 1) G114 x111 Θ111 (fun x114 Θ114 => ∀ (L114 : Le Θ111 Θ114) (r114 : -1 ≤ x114), ∃ G117 : Nat, (g + G91 + G94 + 1 + G111 + G114 + G117 ≤ G) ∧ w2_X39_init ω (d - 1) G117 v101 x114 Θ114 (fun Θ117 => ∀ (L117 : Le Θ114 Θ117), ∃ G120 : Nat, (g + G91 + G94 + 1 + G111 + G114 + G117 + G120 ≤ G) ∧ w2_X39_read ω (d - 1) G120 v101 Θ117 (fun x120 Θ120 => ∀ (L120 : Le Θ117 Θ120) (r120 : -9223372036854775808 ≤ x120 ∧ x120 < 9223372036854775808), (¬ fz Θ120 l0) ∧ ∀ (Θ123 : Th) (t123 : Θ123 = pf Θ120 l0 11 x120), ∃ G128 : Nat, (g + G91 + G94 + 1 + G111 + G114 + G117 + G120 + G128 ≤ G) ∧ w2_X19_references ω (d - 1) G128 l0 Θ123 (fun x128 Θ128 => ∀ (L128 : Le Θ123 Θ128) (r128 : -1 ≤ x128), (¬ fz Θ128 l0) ∧ (-1 ≤ x128) ∧ ∀ (Θ131 : Th) (t131 : Θ131 = pf Θ128 l0 5 x128), W2_X19_init_134 ω d G l0 l2 (g + G91 + G94 + 1 + G111 + G114 + G117 + G120 + G128) Θ131 Q)))))))) : W2_X19_init_83 ω d G l0 l2 g Θ Q := sorry
set_option maxHeartbeats 4000000 in
theorem s2_X19_init_134 {ω : AO} {d G : Nat} {l0 l2 : Int} {g : Nat} {Θ : Th} {Q : Th → Prop} (hB : (kd Θ l0 = 32) ∧ ∀ (v135 : Int) (e135 : v135 = gt (vv Θ l0) 0) (r135 : -1 ≤ v135), (kd Θ v135 = 33) ∧ ∀ (v138 : Int) (e138 : v138 = gt (vv Θ v135) 1) (r138 : -1 ≤ v138), (1 ≤ d) ∧ (kd Θ v138 = 3) ∧ ∃ G141 : Nat, (g + G141 ≤ G) ∧ w2_J7_iterator ω (d - 1) G141 v138 Θ (fun x141 Θ141 => ∀ (L141 : Le Θ Θ141) (r141 : -1 ≤ x141), W2_X19_init_145 ω d G l0 l2 x141 (g + G141) Θ141 Q)) : W2_X19_init_134 ω d G l0 l2 g Θ Q := sorry
set_option maxHeartbeats 4000000 in
theorem s2_X19_init_145 {ω : AO} {d G : Nat} {l0 l2 l3 : Int} {g : Nat} {Θ : Th} {Q : Th → Prop} (hB : (1 ≤ d) ∧ (kd Θ l3 = 14) ∧ ∃ G146 : Nat, (g + G146 ≤ G) ∧ w2_J31_hasNext ω (d - 1) G146 l3 Θ (fun x146 Θ146 => ∀ (L146 : Le Θ Θ146) (r146 : x146 = 0 ∨ x146 = 1), (∀ (c151 : x146 = 0), W2_X19_init_185 ω d G l0 l2 0 (g + G146) Θ146 Q) ∧ (∀ (c151 : ¬ x146 = 0), ∃ G155 : Nat, (g + G146 + G155 ≤ G) ∧ w2_J31_next ω (d - 1) G155 l3 Θ146 (fun x155 Θ155 => ∀ (L155 : Le Θ146 Θ155) (r155 : -1 ≤ x155), (x155 < 0 ∨ kd Θ155 x155 ∈ [35]) ∧ (kd Θ155 l0 = 32) ∧ ∀ (v166 : Int) (e166 : v166 = gt (vv Θ155 l0) 3) (r166 : -1 ≤ v166), ∃ G173 : Nat, (g + G146 + G155 + G173 ≤ G) ∧ w2_X19_textOf ω (d - 1) G173 l0 x155 l2 Θ155 (fun x173 Θ173 => ∀ (L173 : Le Θ155 Θ173) (r173 : -1 ≤ x173), (kd Θ173 v166 = 3) ∧ (¬ fz Θ173 v166) ∧ (rf Θ173 x173) ∧ (adC (cp Θ173 v166) (len (vv Θ173 v166)) ≤ 60000000) ∧ (7 ≤ d) ∧ (g + G146 + G155 + G173 + (adC (cp Θ173 v166) (len (vv Θ173 v166)) - cp Θ173 v166).toNat ≤ G) ∧ ∀ (k176 : Int) (Θ176 : Th) (t176 : Θ176 = uq Θ173 v166 (3, vv Θ173 v166 ++ [x173], adC (cp Θ173 v166) (len (vv Θ173 v166)), k176)), W2_X19_init_145 ω d G l0 l2 l3 (g + G146 + G155 + G173 + (adC (cp Θ173 v166) (len (vv Θ173 v166)) - cp Θ173 v166).toNat) Θ176 Q))))) : W2_X19_init_145 ω d G l0 l2 l3 g Θ Q := sorry
set_option maxHeartbeats 4000000 in
theorem s2_X19_init_185 {ω : AO} {d G : Nat} {l0 l2 l3 : Int} {g : Nat} {Θ : Th} {Q : Th → Prop} (hB : (-2147483648 ≤ l3 ∧ l3 < 2147483648) ∧ (∀ (c187 : 5 ≤ l3), (kd Θ l0 = 32) ∧ ∀ (v219 : Int) (e219 : v219 = gt (vv Θ l0) 1) (r219 : -1 ≤ v219), (1 ≤ d) ∧ (kd Θ v219 = 3) ∧ ∃ G222 : Nat, (g + G222 ≤ G) ∧ w2_J7_iterator ω (d - 1) G222 v219 Θ (fun x222 Θ222 => ∀ (L222 : Le Θ Θ222) (r222 : -1 ≤ x222), W2_X19_init_226 ω d G l0 l2 x222 (g + G222) Θ222 Q)) ∧ (∀ (c187 : l3 < 5), (kd Θ l0 = 32) ∧ ∀ (v191 : Int) (e191 : v191 = gt (vv Θ l0) 6) (r191 : -1 ≤ v191), (g + 2 ≤ G) ∧ ∀ (v194 : Int) (Θ194 : Th) (u194 : nt Θ ≤ v194 ∧ 0 ≤ v194) (b194 : Bl Θ) (t194 : Θ194 = nu Θ v194 (50, [-1, -1, 0, 0, 0, 0], 0, 0)), (kd Θ194 l2 = 16) ∧ ∀ (v199 : Int) (e199 : v199 = gt (vv Θ194 l2) 1) (r199 : -1 ≤ v199), (1 ≤ d) ∧ ∃ G205 : Nat, (g + 2 + G205 ≤ G) ∧ w2_X45_init ω (d - 1) G205 v194 v199 300 Θ194 (fun Θ205 => ∀ (L205 : Le Θ194 Θ205), (kd Θ205 v191 = 3) ∧ (¬ fz Θ205 v191) ∧ (rf Θ205 v194) ∧ (adC (cp Θ205 v191) (len (vv Θ205 v191)) ≤ 60000000) ∧ (7 ≤ d) ∧ (g + 2 + G205 + (adC (cp Θ205 v191) (len (vv Θ205 v191)) - cp Θ205 v191).toNat ≤ G) ∧ ∀ (k208 : Int) (Θ208 : Th) (t208 : Θ208 = uq Θ205 v191 (3, vv Θ205 v191 ++ [v194], adC (cp Θ205 v191) (len (vv Θ205 v191)), k208)), W2_X19_init_185 ω d G l0 l2 ((l3 + 1)) (g + 2 + G205 + (adC (cp Θ205 v191) (len (vv Θ205 v191)) - cp Θ205 v191).toNat) Θ208 Q))) : W2_X19_init_185 ω d G l0 l2 l3 g Θ Q := sorry
set_option maxHeartbeats 4000000 in
theorem s2_X19_init_226 {ω : AO} {d G : Nat} {l0 l2 l3 : Int} {g : Nat} {Θ : Th} {Q : Th → Prop} (hB : (1 ≤ d) ∧ (kd Θ l3 = 14) ∧ ∃ G227 : Nat, (g + G227 ≤ G) ∧ w2_J31_hasNext ω (d - 1) G227 l3 Θ (fun x227 Θ227 => ∀ (L227 : Le Θ Θ227) (r227 : x227 = 0 ∨ x227 = 1), (∀ (c232 : x227 = 0), (kd Θ227 l0 = 32) ∧ ∀ (v271 : Int) (e271 : v271 = gt (vv Θ227 l0) 2) (r271 : -1 ≤ v271), (kd Θ227 v271 = 3) ∧ ∃ G274 : Nat, (g + G227 + G274 ≤ G) ∧ w2_J7_iterator ω (d - 1) G274 v271 Θ227 (fun x274 Θ274 => ∀ (L274 : Le Θ227 Θ274) (r274 : -1 ≤ x274), W2_X19_init_278 ω d G l0 l2 x274 (g + G227 + G274) Θ274 Q)) ∧ (∀ (c232 : ¬ x227 = 0), ∃ G236 : Nat, (g + G227 + G236 ≤ G) ∧ w2_J31_next ω (d - 1) G236 l3 Θ227 (fun x236 Θ236 => ∀ (L236 : Le Θ227 Θ236) (r236 : -1 ≤ x236), (x236 < 0 ∨ kd Θ236 x236 ∈ [42]) ∧ (kd Θ236 l0 = 32) ∧ ∀ (v247 : Int) (e247 : v247 = gt (vv Θ236 l0) 6) (r247 : -1 ≤ v247), (kd Θ236 v247 = 3) ∧ (0 ≤ (0 : Int) ∧ (0 : Int) < len (vv Θ236 v247)) ∧ (3 ≤ d) ∧ (g + G227 + G236 ≤ G) ∧ ∀ (x251 : Int) (e251 : x251 = gt (vv Θ236 v247) (0 : Int)) (r251 : -1 ≤ x251), (x251 < 0 ∨ kd Θ236 x251 ∈ [50]) ∧ ∃ G260 : Nat, (g + G227 + G236 + G260 ≤ G) ∧ w2_X19_source ω (d - 1) G260 x236 l2 Θ236 (fun x260 Θ260 => ∀ (L260 : Le Θ236 Θ260) (r260 : -1 ≤ x260), (kd Θ260 x251 = 50) ∧ ∃ G264 : Nat, (g + G227 + G236 + G260 + G264 ≤ G) ∧ w2_X45_add ω (d - 1) G264 x251 x260 0 Θ260 (fun Θ264 => ∀ (L264 : Le Θ260 Θ264), W2_X19_init_226 ω d G l0 l2 l3 (g + G227 + G236 + G260 + G264) Θ264 Q)))))) : W2_X19_init_226 ω d G l0 l2 l3 g Θ Q := sorry
set_option maxHeartbeats 4000000 in
theorem s2_X19_init_278 {ω : AO} {d G : Nat} {l0 l2 l3 : Int} {g : Nat} {Θ : Th} {Q : Th → Prop} (hB : (1 ≤ d) ∧ (kd Θ l3 = 14) ∧ ∃ G279 : Nat, (g + G279 ≤ G) ∧ w2_J31_hasNext ω (d - 1) G279 l3 Θ (fun x279 Θ279 => ∀ (L279 : Le Θ Θ279) (r279 : x279 = 0 ∨ x279 = 1), (∀ (c284 : x279 = 0), (kd Θ279 l0 = 32) ∧ ∀ (v323 : Int) (e323 : v323 = gt (vv Θ279 l0) 0) (r323 : -1 ≤ v323), (kd Θ279 v323 = 33) ∧ ∀ (v326 : Int) (e326 : v326 = gt (vv Θ279 v323) 2) (r326 : -1 ≤ v326), (kd Θ279 v326 = 3) ∧ ∃ G329 : Nat, (g + G279 + G329 ≤ G) ∧ w2_J7_iterator ω (d - 1) G329 v326 Θ279 (fun x329 Θ329 => ∀ (L329 : Le Θ279 Θ329) (r329 : -1 ≤ x329), W2_X19_init_333 ω d G l0 l2 x329 (g + G279 + G329) Θ329 Q)) ∧ (∀ (c284 : ¬ x279 = 0), ∃ G288 : Nat, (g + G279 + G288 ≤ G) ∧ w2_J31_next ω (d - 1) G288 l3 Θ279 (fun x288 Θ288 => ∀ (L288 : Le Θ279 Θ288) (r288 : -1 ≤ x288), (x288 < 0 ∨ kd Θ288 x288 ∈ [42]) ∧ (kd Θ288 l0 = 32) ∧ ∀ (v299 : Int) (e299 : v299 = gt (vv Θ288 l0) 6) (r299 : -1 ≤ v299), (kd Θ288 v299 = 3) ∧ (0 ≤ (1 : Int) ∧ (1 : Int) < len (vv Θ288 v299)) ∧ (3 ≤ d) ∧ (g + G279 + G288 ≤ G) ∧ ∀ (x303 : Int) (e303 : x303 = gt (vv Θ288 v299) (1 : Int)) (r303 : -1 ≤ x303), (x303 < 0 ∨ kd Θ288 x303 ∈ [50]) ∧ ∃ G312 : Nat, (g + G279 + G288 + G312 ≤ G) ∧ w2_X19_source ω (d - 1) G312 x288 l2 Θ288 (fun x312 Θ312 => ∀ (L312 : Le Θ288 Θ312) (r312 : -1 ≤ x312), (kd Θ312 x303 = 50) ∧ ∃ G316 : Nat, (g + G279 + G288 + G312 + G316 ≤ G) ∧ w2_X45_add ω (d - 1) G316 x303 x312 0 Θ312 (fun Θ316 => ∀ (L316 : Le Θ312 Θ316), W2_X19_init_278 ω d G l0 l2 l3 (g + G279 + G288 + G312 + G316) Θ316 Q)))))) : W2_X19_init_278 ω d G l0 l2 l3 g Θ Q := sorry
set_option maxHeartbeats 4000000 in
theorem s2_X19_init_333 {ω : AO} {d G : Nat} {l0 l2 l3 : Int} {g : Nat} {Θ : Th} {Q : Th → Prop} (hB : (1 ≤ d) ∧ (kd Θ l3 = 14) ∧ ∃ G334 : Nat, (g + G334 ≤ G) ∧ w2_J31_hasNext ω (d - 1) G334 l3 Θ (fun x334 Θ334 => ∀ (L334 : Le Θ Θ334) (r334 : x334 = 0 ∨ x334 = 1), (∀ (c339 : x334 = 0), (kd Θ334 l0 = 32) ∧ ∀ (v374 : Int) (e374 : v374 = gt (vv Θ334 l0) 6) (r374 : -1 ≤ v374), (kd Θ334 v374 = 3) ∧ (0 ≤ (2 : Int) ∧ (2 : Int) < len (vv Θ334 v374)) ∧ (3 ≤ d) ∧ (g + G334 ≤ G) ∧ ∀ (x378 : Int) (e378 : x378 = gt (vv Θ334 v374) (2 : Int)) (r378 : -1 ≤ x378), (x378 < 0 ∨ kd Θ334 x378 ∈ [50]) ∧ ∀ (v385 : Int) (e385 : v385 = gt (vv Θ334 l0) 7) (r385 : -1 ≤ v385), (kd Θ334 x378 = 50) ∧ ∃ G389 : Nat, (g + G334 + G389 ≤ G) ∧ w2_X45_add ω (d - 1) G389 x378 v385 0 Θ334 (fun Θ389 => ∀ (L389 : Le Θ334 Θ389), ∀ (v393 : Int) (e393 : v393 = gt (vv Θ389 l0) 3) (r393 : -1 ≤ v393), (kd Θ389 v393 = 3) ∧ ∃ G396 : Nat, (g + G334 + G389 + G396 ≤ G) ∧ w2_J7_iterator ω (d - 1) G396 v393 Θ389 (fun x396 Θ396 => ∀ (L396 : Le Θ389 Θ396) (r396 : -1 ≤ x396), W2_X19_init_400 ω d G l0 l2 x396 (g + G334 + G389 + G396) Θ396 Q))) ∧ (∀ (c339 : ¬ x334 = 0), ∃ G343 : Nat, (g + G334 + G343 ≤ G) ∧ w2_J31_next ω (d - 1) G343 l3 Θ334 (fun x343 Θ343 => ∀ (L343 : Le Θ334 Θ343) (r343 : -1 ≤ x343), (x343 < 0 ∨ kd Θ343 x343 ∈ [35]) ∧ (kd Θ343 l0 = 32) ∧ ∀ (v354 : Int) (e354 : v354 = gt (vv Θ343 l0) 4) (r354 : -1 ≤ v354), (kd Θ343 x343 = 35) ∧ ∀ (v360 : Int) (e360 : v360 = gt (vv Θ343 x343) 11) (r360 : -1 ≤ v360), (kd Θ343 l2 = 16) ∧ ∃ G363 : Nat, (g + G334 + G343 + G363 ≤ G) ∧ w2_X2_plain ω (d - 1) G363 l2 v360 Θ343 (fun x363 Θ363 => ∀ (L363 : Le Θ343 Θ363) (r363 : -1 ≤ x363), (kd Θ363 v354 = 3) ∧ (¬ fz Θ363 v354) ∧ (rf Θ363 x363) ∧ (adC (cp Θ363 v354) (len (vv Θ363 v354)) ≤ 60000000) ∧ (7 ≤ d) ∧ (g + G334 + G343 + G363 + (adC (cp Θ363 v354) (len (vv Θ363 v354)) - cp Θ363 v354).toNat ≤ G) ∧ ∀ (k366 : Int) (Θ366 : Th) (t366 : Θ366 = uq Θ363 v354 (3, vv Θ363 v354 ++ [x363], adC (cp Θ363 v354) (len (vv Θ363 v354)), k366)), W2_X19_init_333 ω d G l0 l2 l3 (g + G334 + G343 + G363 + (adC (cp Θ363 v354) (len (vv Θ363 v354)) - cp Θ363 v354).toNat) Θ366 Q))))) : W2_X19_init_333 ω d G l0 l2 l3 g Θ Q := sorry
set_option maxHeartbeats 4000000 in
theorem s2_X19_init_400 {ω : AO} {d G : Nat} {l0 l2 l3 : Int} {g : Nat} {Θ : Th} {Q : Th → Prop} (hB : (1 ≤ d) ∧ (kd Θ l3 = 14) ∧ ∃ G401 : Nat, (g + G401 ≤ G) ∧ w2_J31_hasNext ω (d - 1) G401 l3 Θ (fun x401 Θ401 => ∀ (L401 : Le Θ Θ401) (r401 : x401 = 0 ∨ x401 = 1), (∀ (c406 : x401 = 0), (kd Θ401 l0 = 32) ∧ ∀ (v441 : Int) (e441 : v441 = gt (vv Θ401 l0) 0) (r441 : -1 ≤ v441), (kd Θ401 v441 = 33) ∧ ∀ (v444 : Int) (e444 : v444 = gt (vv Θ401 v441) 2) (r444 : -1 ≤ v444), (kd Θ401 v444 = 3) ∧ ∃ G447 : Nat, (g + G401 + G447 ≤ G) ∧ w2_J7_iterator ω (d - 1) G447 v444 Θ401 (fun x447 Θ447 => ∀ (L447 : Le Θ401 Θ447) (r447 : -1 ≤ x447), W2_X19_init_451 ω d G l0 l2 x447 (g + G401 + G447) Θ447 Q)) ∧ (∀ (c406 : ¬ x401 = 0), ∃ G410 : Nat, (g + G401 + G410 ≤ G) ∧ w2_J31_next ω (d - 1) G410 l3 Θ401 (fun x410 Θ410 => ∀ (L410 : Le Θ401 Θ410) (r410 : -1 ≤ x410), (x410 < 0 ∨ kd Θ410 x410 ∈ [20]) ∧ (kd Θ410 l0 = 32) ∧ ∀ (v421 : Int) (e421 : v421 = gt (vv Θ410 l0) 6) (r421 : -1 ≤ v421), (kd Θ410 v421 = 3) ∧ (0 ≤ (3 : Int) ∧ (3 : Int) < len (vv Θ410 v421)) ∧ (3 ≤ d) ∧ (g + G401 + G410 ≤ G) ∧ ∀ (x425 : Int) (e425 : x425 = gt (vv Θ410 v421) (3 : Int)) (r425 : -1 ≤ x425), (x425 < 0 ∨ kd Θ410 x425 ∈ [50]) ∧ (kd Θ410 x425 = 50) ∧ ∃ G434 : Nat, (g + G401 + G410 + G434 ≤ G) ∧ w2_X45_add ω (d - 1) G434 x425 x410 1 Θ410 (fun Θ434 => ∀ (L434 : Le Θ410 Θ434), W2_X19_init_400 ω d G l0 l2 l3 (g + G401 + G410 + G434) Θ434 Q))))) : W2_X19_init_400 ω d G l0 l2 l3 g Θ Q := sorry
set_option maxHeartbeats 4000000 in
theorem s2_X19_init_451 {ω : AO} {d G : Nat} {l0 l2 l3 : Int} {g : Nat} {Θ : Th} {Q : Th → Prop} (hB : (1 ≤ d) ∧ (kd Θ l3 = 14) ∧ ∃ G452 : Nat, (g + G452 ≤ G) ∧ w2_J31_hasNext ω (d - 1) G452 l3 Θ (fun x452 Θ452 => ∀ (L452 : Le Θ Θ452) (r452 : x452 = 0 ∨ x452 = 1), (∀ (c457 : x452 = 0), (kd Θ452 l0 = 32) ∧ ∀ (v511 : Int) (e511 : v511 = gt (vv Θ452 l0) 6) (r511 : -1 ≤ v511), ∃ G514 : Nat, (g + G452 + G514 ≤ G) ∧ w2_X19_wordsOf ω (d - 1) G514 v511 Θ452 (fun x514 Θ514 => ∀ (L514 : Le Θ452 Θ514) (r514 : -1 ≤ x514), (¬ fz Θ514 l0) ∧ (-1 ≤ x514) ∧ ∀ (Θ517 : Th) (t517 : Θ517 = pf Θ514 l0 8 x514), ∀ (v521 : Int) (e521 : v521 = gt (vv Θ517 l0) 7) (r521 : -1 ≤ v521), ∃ G524 : Nat, (g + G452 + G514 + G524 ≤ G) ∧ w2_X19_smallOf ω (d - 1) G524 v521 Θ517 (fun x524 Θ524 => ∀ (L524 : Le Θ517 Θ524) (r524 : -1 ≤ x524), ∃ G530 : Nat, (g + G452 + G514 + G524 + G530 ≤ G) ∧ w2_X19_baseOf ω (d - 1) G530 x524 Θ524 (fun x530 Θ530 => ∀ (L530 : Le Θ524 Θ530) (r530 : -1 ≤ x530), (¬ fz Θ530 l0) ∧ (-1 ≤ x530) ∧ ∀ (Θ533 : Th) (t533 : Θ533 = pf Θ530 l0 9 x530), ∀ (v538 : Int) (e538 : v538 = gt (vv Θ533 l0) 9) (r538 : -1 ≤ v538), (kd Θ533 x524 = 2) ∧ (8 ≤ d) ∧ (g + G452 + G514 + G524 + G530 + (len (vv Θ533 x524) + 5).toNat ≤ G) ∧ ∀ (x542 : Int) (Θ542 : Th) (e542 : NewS Θ533 Θ542 x542 (trmL (vv Θ533 x524))), (kd Θ542 v538 = 2) ∧ (2 ≤ d) ∧ ∀ (x545 : Int) (e545 : x545 = if vv Θ542 v538 = vv Θ542 x542 then 1 else 0) (r545 : x545 = 0 ∨ x545 = 1), (∀ (c548 : ¬ x545 = 0), (¬ fz Θ542 l0) ∧ ∀ (Θ556 : Th) (t556 : Θ556 = pf Θ542 l0 10 0), Q Θ556) ∧ (∀ (c548 : x545 = 0), (¬ fz Θ542 l0) ∧ ∀ (Θ556 : Th) (t556 : Θ556 = pf Θ542 l0 10 1), Q Θ556))))) ∧ (∀ (c457 : ¬ x452 = 0), ∃ G461 : Nat, (g + G452 + G461 ≤ G) ∧ w2_J31_next ω (d - 1) G461 l3 Θ452 (fun x461 Θ461 => ∀ (L461 : Le Θ452 Θ461) (r461 : -1 ≤ x461), (x461 < 0 ∨ kd Θ461 x461 ∈ [35]) ∧ (kd Θ461 x461 = 35) ∧ ∀ (v473 : Int) (e473 : v473 = gt (vv Θ461 x461) 11) (r473 : -1 ≤ v473), (kd Θ461 v473 = 2) ∧ (g + G452 + G461 ≤ G) ∧ ∀ (x476 : Int) (e476 : x476 = if vv Θ461 v473 = [] then 1 else 0) (r476 : x476 = 0 ∨ x476 = 1), (∀ (c479 : ¬ x476 = 0), W2_X19_init_451 ω d G l0 l2 l3 (g + G452 + G461) Θ461 Q) ∧ (∀ (c479 : x476 = 0), (kd Θ461 l0 = 32) ∧ ∀ (v483 : Int) (e483 : v483 = gt (vv Θ461 l0) 6) (r483 : -1 ≤ v483), (kd Θ461 v483 = 3) ∧ (0 ≤ (4 : Int) ∧ (4 : Int) < len (vv Θ461 v483)) ∧ (3 ≤ d) ∧ ∀ (x487 : Int) (e487 : x487 = gt (vv Θ461 v483) (4 : Int)) (r487 : -1 ≤ x487), (x487 < 0 ∨ kd Θ461 x487 ∈ [50]) ∧ ∀ (v496 : Int) (e496 : v496 = gt (vv Θ461 x461) 11) (r496 : -1 ≤ v496), (kd Θ461 l2 = 16) ∧ ∃ G499 : Nat, (g + G452 + G461 + G499 ≤ G) ∧ w2_X2_plain ω (d - 1) G499 l2 v496 Θ461 (fun x499 Θ499 => ∀ (L499 : Le Θ461 Θ499) (r499 : -1 ≤ x499), (kd Θ499 x487 = 50) ∧ ∃ G503 : Nat, (g + G452 + G461 + G499 + G503 ≤ G) ∧ w2_X45_add ω (d - 1) G503 x487 x499 0 Θ499 (fun Θ503 => ∀ (L503 : Le Θ499 Θ503), W2_X19_init_451 ω d G l0 l2 l3 (g + G452 + G461 + G499 + G503) Θ503 Q))))))) : W2_X19_init_451 ω d G l0 l2 l3 g Θ Q := sorry
/-! 76.ab.lean.txt -/
/-! texts of rows; tools: plain, encoded, query -/
set_option maxRecDepth 100000
def pnD (p : Int) : Nat := if 0 < p then 1 else 0
theorem ust_pn (p u : Int) : (ust p u).1.length + pnD (ust p u).2 ≤ 1 + pnD p := sorry
theorem uend_pn (p : Int) : (uend p).length ≤ pnD p := sorry
theorem rnO_t {l : List Int} : ∀ (N : Nat) (k b n p : Int), (len l - k).toNat = N → 0 ≤ n → n < 16 → 16 * ((rnO l k b n p).length : Int) ≤ n + 6 * (rnK l k - k) + 16 * (pnD p : Int) := sorry
theorem sv7_t {l : List Int} : ∀ (N : Nat) (k : Int), (len l - k).toNat = N → 0 ≤ k → (sv7 l k).length ≤ N := sorry
theorem chsF_t {set : Int} {l : List Int} : (chsF set l).length ≤ l.length + 1 := sorry
theorem wdT_t {l : List Int} {k e : Int} (hb : byt l) (h : weF l k = e) (h0 : 0 ≤ e) (hk : 0 ≤ k) : ((wdT l k e).length : Int) ≤ e - k - 6 := sorry
theorem enR_t {l : List Int} (hb : byt l) : ∀ (N : Nat) (k : Int) (pl : List Int) (w : Bool), (len l - k).toNat = N → 0 ≤ k → (enR l k pl w).length ≤ N + pl.length := sorry
/-- a text of characters -/
def tfC (c : Int) : Int := if 65535 < c then 65533 else c % 65536
def tfF (l : List Int) : List Int := l.map tfC
theorem tfC_in (c : Int) : 0 ≤ tfC c ∧ tfC c < 65536 := sorry
theorem tfF_in {l : List Int} : ∀ x, x ∈ tfF l → 0 ≤ x ∧ x < 65536 := sorry
theorem tfF_len {l : List Int} : len (tfF l) = len l := by unfold tfF len; rw [List.length_map]
section TFX
variable {ω : AO} {d G : Nat} {Θ Θ1 : Th} {a s b k x y ch arr : Int} {l r : List Int}
theorem u_X6_of {Q : Int → Th → Prop} (hd : 4 ≤ d) (h : kd Θ a = 19) (hr : vv Θ a = r) (hl : len r ≤ 2000) (hG : 1 + (max 2 (len r)).toNat / 5 + 2 ≤ G) (hQ : ∀ t c e Θ', Gr Θ Θ' → Fx Θ' t (20, tfF r, c, e) → 0 ≤ t → kd Θ t = 0 → Q t Θ') : w2_X6_of ω d G a Θ Q := sorry
/-- the tools: charsets, the stemmer, three rows -/
def TlO (Θ : Th) (a ch arr st sb ti to tt : Int) : Prop := ∃ li ci ei lo co eo lt ct et w h, xo Θ a = (16, [ch, st, ti, to, tt], 0, 0) ∧ CHS Θ ch arr ∧ StO Θ st sb w h ∧ xo Θ ti = (19, li, ci, ei) ∧ ¬ fz Θ ti ∧ xo Θ to = (19, lo, co, eo) ∧ ¬ fz Θ to ∧ xo Θ tt = (20, lt, ct, et) ∧ ¬ fz Θ tt ∧ ti ≠ to ∧ (8 ≤ ci ∧ ci ≤ 10000) ∧ (8 ≤ co ∧ co ≤ 10000) ∧ (2 ≤ ct ∧ ct ≤ 10000)
abbrev exT (arr ti to tt : Int) : Int → Prop := fun z => z = arr ∨ z = ti ∨ z = to ∨ z = tt
theorem u_X2_plain {Q : Int → Th → Prop} {F : List Int} (hd : 14 ≤ d) (h : xo Θ a = (16, F, 0, 0)) (h0 : gt F 0 = ch) (hch : CHS Θ ch arr) (hs : Str Θ s l) (hb : byt l) (hl : len l ≤ 1900) (hG : 8 * len l + 120 ≤ (G : Int)) (hQ : ∀ t c e Θ', GrX (· = arr) Θ Θ' → CHS Θ' ch arr → Fx Θ' t (20, tfF (utf8 l), c, e) → 0 ≤ t → kd Θ t = 0 → Q t Θ') : w2_X2_plain ω d G a s Θ Q := sorry
theorem u_X2_encoded {Q : Int → Th → Prop} {F : List Int} (hd : 16 ≤ d) (h : xo Θ a = (16, F, 0, 0)) (h0 : gt F 0 = ch) (hch : CHS Θ ch arr) (hs : Str Θ s l) (hb : byt l) (hl : len l ≤ 2000) (hG : 56 * len l + 150 ≤ (G : Int)) (hQ : ∀ t c e Θ', GrX (· = arr) Θ Θ' → CHS Θ' ch arr → Fx Θ' t (20, tfF (enR l 0 [] false), c, e) → 0 ≤ t → kd Θ t = 0 → Q t Θ') : w2_X2_encoded ω d G a s Θ Q := sorry
theorem u_X3_init {Q : Th → Prop} (hd : 1 ≤ d) (h : xo Θ a = (17, [-1], 0, 0)) (hf : ¬ fz Θ a) (hG : 4 ≤ G) (hQ : ∀ arr Θ', GrX (· = a) Θ Θ' → kd Θ arr = 0 → CHS Θ' a arr → Q Θ') : w2_X3_init ω d G a Θ Q := sorry
theorem u_X4_init {Q : Th → Prop} (hd : 1 ≤ d) (h : xo Θ a = (18, [-1, 0, 0], 0, 0)) (hf : ¬ fz Θ a) (hG : 8 ≤ G) (hQ : ∀ arr Θ', GrX (· = a) Θ Θ' → kd Θ arr = 0 → StO Θ' a arr [] 0 → Q Θ') : w2_X4_init ω d G a Θ Q := sorry
theorem u_X2_query {Q : Int → Th → Prop} {st sb ti to tt : Int} (hd : 14 ≤ d) (h : TlO Θ a ch arr st sb ti to tt) (hs : Str Θ s l) (hb : byt l) (hl : len l ≤ 1900) (hG : 7 * len l + 70 ≤ (G : Int)) (hQ : ∀ Θ', GrX (exT arr ti to tt) Θ Θ' → TlO Θ' a ch arr st sb ti to tt → kd Θ' tt = 20 → vv Θ' tt = tfF (utf8 l) → Q tt Θ') : w2_X2_query ω d G a s Θ Q := sorry
end TFX

/-! 76.ac.lean.txt -/
/-! contents: small letters, bases of subjects, identities, references -/
set_option maxRecDepth 100000
def smS (l : List Int) : List Int := l.map smW
def pfD (c : Int) : Bool := decide (chDg c)
def RE_ : List Int := [114, 101]
def AW_ : List Int := [97, 119]
def FWD_ : List Int := [102, 119, 100]
def FW_ : List Int := [102, 119]
def pfN (l : List Int) (k : Int) : Int := if pAtB l RE_ k = true ∨ pAtB l AW_ k = true then 2 else if pAtB l FWD_ k = true then 3 else if pAtB l FW_ k = true then 2 else 0
def pf1 (l : List Int) (k : Int) : Int := if k < len l ∧ gt l k = 58 then k + 1 else 0
/-- where an answer's sign ends; 0 if there is none -/
def pfE (l : List Int) (k : Int) : Int :=
  if pfN l k = 0 then 0
  else if k + pfN l k < len l ∧ gt l (k + pfN l k) = 91 then
    (if scn pfD l (k + pfN l k + 1) = k + pfN l k + 1 ∨ scn pfD l (k + pfN l k + 1) = len l ∨ gt l (scn pfD l (k + pfN l k + 1)) ≠ 93 then 0 else pf1 l (scn pfD l (k + pfN l k + 1) + 1))
  else pf1 l (k + pfN l k)
/-- characters of one byte from a place to another one -/
def loB (l : List Int) (i j : Int) : Prop := ∀ k, i ≤ k → k < j → gt l k < 256
theorem loB.tr {l : List Int} {i j k : Int} (h : loB l i j) (h2 : loB l j k) : loB l i k := sorry
theorem loB_pat {l m : List Int} {k : Int} (h : pAtB l m k = true) (hm : ∀ x, x ∈ m → x < 256) : 0 ≤ k ∧ k + len m ≤ len l ∧ loB l k (k + len m) := sorry
theorem pfN_in {l : List Int} {k : Int} : (pfN l k = 0 ∨ (0 ≤ k ∧ (pfN l k = 2 ∨ pfN l k = 3) ∧ k + pfN l k ≤ len l ∧ loB l k (k + pfN l k))) := sorry
theorem pf1_in {l : List Int} {k : Int} (h : pf1 l k ≠ 0) : pf1 l k = k + 1 ∧ k < len l ∧ loB l k (k + 1) := sorry
theorem pfE_in {l : List Int} {k : Int} (h : pfE l k ≠ 0) : 0 ≤ k ∧ k + 3 ≤ pfE l k ∧ pfE l k ≤ len l ∧ loB l k (pfE l k) := sorry
/-- where a subject's base begins -/
def bsG (l : List Int) (k : Int) : Int := if h : 0 ≤ k ∧ k ≤ len l ∧ pfE l k ≠ 0 then bsG l (max (k + 1) (scn blB l (pfE l k))) else k
termination_by (len l + 1 - k).toNat
def baF (l : List Int) : List Int := sub (trmL l) (bsG (trmL l) 0) (len (trmL l))
def idO (l : List Int) : Prop := l ≠ [] ∧ len l ≤ 100 ∧ idx l 32 0 < 0 ∧ idx l 9 0 < 0
abbrev idB (l : List Int) : Bool := !(decide (l = [])) && (decide (len l ≤ 100) && (decide (idx l 32 0 < 0) && decide (idx l 9 0 < 0)))
/-- the identities of a value -/
def idS (l : List Int) (k : Int) : List (List Int) :=
  if h : 0 ≤ k ∧ k < len l then
    if 0 ≤ idx l 62 k then
      (if idB (sub l (k + 1) (idx l 62 k)) = true then [sub l (k + 1) (idx l 62 k)] else []) ++ (if 0 ≤ idx l 60 (idx l 62 k) then idS l (max (k + 1) (idx l 60 (idx l 62 k))) else [])
    else []
  else []
termination_by (len l - k).toNat
def idA (l : List Int) : List (List Int) := if 0 ≤ idx l 60 0 then idS l (idx l 60 0) else []
def REFS : List Int := [114, 101, 102, 101, 114, 101, 110, 99, 101, 115]
def INRT : List Int := [105, 110, 45, 114, 101, 112, 108, 121, 45, 116, 111]
def reF (a b : List Int) : List (List Int) := if idA a = [] then (idA b).take 1 else (idA a).drop ((idA a).length - 8)
section CTA
variable {ω : AO} {d G : Nat} {Θ Θ1 : Th} {a s t k x y b p : Int} {l m rs prs : List Int} {ens : List Ev} {ls : List (List Int)}
theorem u_X19_smallOf {Q : Int → Th → Prop} (hd : 9 ≤ d) (h1 : kd Θ t = 20) (h2 : vv Θ t = l) (hch : ∀ x, x ∈ l → 0 ≤ x ∧ x < 65536) (hl : len l ≤ 100000) (hG : 5 * len l + 30 ≤ (G : Int)) (hQ : ∀ r Θ', NewS Θ Θ' r (smS l) → nt Θ ≤ r → Q r Θ') : w2_X19_smallOf ω d G t Θ Q := sorry
theorem wide_lit {m : List Int} (h : ∀ x, x ∈ m → x < 256) : wide m = 0 := if_pos h
theorem u_X19_prefixEnd {Q : Int → Th → Prop} (hd : 5 ≤ d) (hs : Str Θ s l) (hk : 0 ≤ k ∧ k ≤ len l) (hl : len l ≤ 100000) (hQ : Q (pfE l k) Θ) : w2_X19_prefixEnd ω d G s k Θ Q := sorry
theorem u_X19_baseOf {Q : Int → Th → Prop} (hd : 8 ≤ d) (hs : Str Θ s l) (hl : len l ≤ 100000) (hG : 2 * len l + 10 ≤ (G : Int)) (hQ : ∀ r Θ', NewS Θ Θ' r (baF l) → Q r Θ') : w2_X19_baseOf ω d G s Θ Q := sorry
end CTA

/-! 76.ad.lean.txt -/
/-! contents: identities, references -/
set_option maxRecDepth 100000
section CTB
variable {ω : AO} {d G : Nat} {Θ Θ1 : Th} {a s t k x y b p w : Int} {l m rs prs : List Int} {ens : List Ev} {ls : List (List Int)}
theorem u_X19_identities {Q : Int → Th → Prop} (hd : 8 ≤ d) (hs : Str Θ s l) (hwl : wide l = 0) (hl : len l ≤ 100000) (hG : 6 * len l + 40 ≤ (G : Int)) (hQ : ∀ w rs c e Θ', Gr Θ Θ' → xo Θ' w = (3, rs, c, e) → ¬ fz Θ' w → all2 (Str Θ') rs (idA l) → kd Θ w = 0 → 0 ≤ w → len rs ≤ len l + 1 → Q w Θ') : w2_X19_identities ω d G s Θ Q := sorry
theorem u_rf57 {Q : Int → Th → Prop} {V : List (List Int)} {g : Nat} (hd : 3 ≤ d) (hg : g ≤ G) (w0 : 0 ≤ w) (hwz : kd Θ w = 0) (hQ : ∀ rs c e Θ', Gr Θ Θ' → xo Θ' w = (3, rs, c, e) → ¬ fz Θ' w → all2 (Str Θ') rs (V.drop (V.length - 8)) → Q w Θ') :
    ∀ (N : Nat) (rs : List Int) (V1 : List (List Int)) (c e : Int) (Θ1 : Th), rs.length = N → N ≤ 1000000 → Gr Θ Θ1 → xo Θ1 w = (3, rs, c, e) → ¬ fz Θ1 w → all2 (Str Θ1) rs V1 → V1.drop (V1.length - 8) = V.drop (V.length - 8) → W2_X19_references_57 ω d G w g Θ1 Q := sorry
theorem u_X19_references {Q : Int → Th → Prop} {F sh hg : List Int} {M : Int} (hd : 10 ≤ d) (h : xo Θ a = (32, F, 0, 0)) (h0 : gt F 0 = p) (hp : PtO Θ p rs prs ls ens sh hg) (hr0 : 0 < len rs) (hok : hdOk (evH (en ens 0))) (hM : len (vlF (evH (en ens 0)) REFS) ≤ M ∧ len (vlF (evH (en ens 0)) INRT) ≤ M ∧ M ≤ 100000) (hG : 12 * M + 100 ≤ (G : Int))
    (hQ : ∀ r rs c e Θ', Gr Θ Θ' → Fx Θ' r (3, rs, c, e) → all2 (Str Θ') rs (reF (vlF (evH (en ens 0)) REFS) (vlF (evH (en ens 0)) INRT)) → 0 ≤ r → Q r Θ') : w2_X19_references ω d G a Θ Q := sorry
end CTB

/-! 76.b0.lean.txt -/
/-! addresses once more: that their mailboxes are new -/
set_option maxRecDepth 100000
theorem old0 {Θ Θ1 : Th} {ex : Int → Prop} {r : Int} (g : GrX ex Θ Θ1) (hk : ∀ b, ex b → 0 < kd Θ b ∧ kd Θ b < 200) (h : kd Θ1 r = 0) : kd Θ r = 0 := sorry
section MBX
variable {ω : AO} {d G : Nat} {Θ Θ1 Θ2 : Th} {a m p q r cm ia ig c e c2 e2 : Int} {rs ps ct : List Int} {us : List Wo} {ex : Int → Prop} {v : Mb}
theorem u_X26_mailboxF {M : Int} {Q : Th → Prop} (hd : 13 ≤ d) (ha : xo Θ a = (39, [p, q, cm, ia, ig], 0, 0)) (hq : xo Θ q = (3, rs, c, e)) (hw : all2 (CutO ω Θ) rs us) (hs : sgO us) (hl : len rs ≤ 900000) (hp : xo Θ p = (3, ps, c2, e2)) (hfp : ¬ fz Θ p) (hcm : CmO Θ cm ct)
    (hM : wsum us ≤ M ∧ M ≤ 900000) (hc : c2 ≤ adC c2 (len ps) ∧ adC c2 (len ps) ≤ 60000000) (hG : us.length ≠ 0 → 15 * M + 118 ≤ (G : Int)) (hGs : ∀ v, mbF us ct = some v → 15 * M + 118 + (adC c2 (len ps) - c2) ≤ (G : Int))
    (hN : mbF us ct = none → ∀ Θ', Gr Θ Θ' → Q Θ') (hS : ∀ v Θ' r x, mbF us ct = some v → GrX (· = p) Θ Θ' → xo Θ' p = (3, ps ++ [r], adC c2 (len ps), x) → MbO Θ' r v → kd Θ r = 0 → Q Θ') : w2_X26_mailbox ω d G a Θ Q := sorry
theorem u_X26_endF {M sg : Int} {Q : Th → Prop} (hd : 14 ≤ d) (ha : xo Θ a = (39, [p, q, cm, ia, ig], 0, 0)) (hfa : ¬ fz Θ a) (hq : xo Θ q = (3, rs, c, e)) (hfq : ¬ fz Θ q) (hw : all2 (CutO ω Θ) rs us) (hs : sgO us) (hl : len rs ≤ 900000) (hp : xo Θ p = (3, ps, c2, e2)) (hfp : ¬ fz Θ p)
    (hpq : p ≠ q) (hcm : CmO Θ cm ct) (hM : wsum us ≤ M ∧ M ≤ 900000) (hc : c2 ≤ adC c2 (len ps) ∧ adC c2 (len ps) ≤ 60000000) (hG : us.length ≠ 0 → 15 * M + 118 ≤ (G : Int)) (hGs : endF us ct sg ≠ [] → 15 * M + 118 + (adC c2 (len ps) - c2) ≤ (G : Int)) (hsg : inI sg)
    (hQ : ∀ Θ' ig' x rn c3 e3, GrX (exA a p q) Θ Θ' → xo Θ' a = (39, [p, q, -1, 0, ig'], 0, 0) → xo Θ' q = (3, [], c, x) → xo Θ' p = (3, ps ++ rn, c3, e3) → all2 (MbO Θ') rn (endF us ct sg) → (∀ r, r ∈ rn → kd Θ r = 0) → ((rn = [] ∧ c3 = c2) ∨ ∃ r, rn = [r] ∧ c3 = adC c2 (len ps) ∧ us.length ≠ 0) → Q Θ') : w2_X26_end ω d G a sg Θ Q := sorry
end MBX
section RDX
variable {ω : AO} {d G : Nat} {Θ Θ1 Θ2 : Th} {a p q wl cw ew k : Int} {g : Nat} {wrs : List Int} {ws : List Wo} {T : List Mb} {Q : Th → Prop}
def RDXF (ω : AO) (Θ Θ1 : Th) (a p q : Int) (wrs : List Int) (ws : List Wo) (T : List Mb) (k : Int) (g : Nat) (rs ps : List Int) (us : List Wo) (ct : List Int) (done : List Mb) (cm ia ig c ec c2 ep : Int) : Prop :=
  GrX (exA a p q) Θ Θ1 ∧ xo Θ1 a = (39, [p, q, cm, ia, ig], 0, 0) ∧ xo Θ1 q = (3, rs, c, ec) ∧ all2 (CutO ω Θ1) rs us ∧ sgO us ∧ CmO Θ1 cm ct ∧ xo Θ1 p = (3, ps, c2, ep) ∧ all2 (MbO Θ1) ps done ∧ RDN wrs ws k g rs ps us c c2 ∧ (ia = 0 ∨ ia = 1) ∧ T = done ++ adR (ws.drop k.toNat) us ct ia ∧ ∀ r, r ∈ ps → kd Θ r = 0
def RDIF (ω : AO) (Θ Θ1 : Th) (a p q : Int) (wrs : List Int) (ws : List Wo) (T : List Mb) (k : Int) (g : Nat) : Prop :=
  ∃ rs ps us ct done cm ia ig c ec c2 ep, RDXF ω Θ Θ1 a p q wrs ws T k g rs ps us ct done cm ia ig c ec c2 ep
theorem rd_99F {rs ps ct : List Int} {us : List Wo} {done : List Mb} {cm ia ig c ec c2 ep x12 : Int} (hd : 15 ≤ d) (F : RDF ω Θ a p q wl wrs ws) (X : RDXF ω Θ Θ1 a p q wrs ws T k g rs ps us ct done cm ia ig c ec c2 ep) (hk : k < len wrs) (hG : (g : Int) + (adC c (len rs) - c) ≤ G) (hc0 : CutO ω Θ1 x12 (wo ws k)) (hsw : (wo ws k).1 = 12 → 0 < len (wo ws k).2)
    (hn : ¬ (ia = 0 ∧ (isG (wo ws k) 44 ∨ isG (wo ws k) 59 ∨ isG (wo ws k) 58))) (hkd : ¬ (wo ws k).1 = 13) (ih : ∀ Θ2 g2, RDIF ω Θ Θ2 a p q wrs ws T (k + 1) g2 → W2_X26_read_2 ω d G a wl (k + 1) g2 Θ2 Q) : W2_X26_read_99 ω d G a wl k x12 g Θ1 Q := sorry
theorem RDXF.endG {rs ps ct : List Int} {us : List Wo} {done : List Mb} {cm ia ig c ec c2 ep sg : Int} (X : RDXF ω Θ Θ1 a p q wrs ws T k g rs ps us ct done cm ia ig c ec c2 ep) : 0 ≤ enC us ct sg c2 ps ∧ (us.length ≠ 0 → 15 * wsum us + 118 ≤ enC us ct sg c2 ps) ∧ (endF us ct sg ≠ [] → 15 * wsum us + 118 + (adC c2 (len ps) - c2) ≤ enC us ct sg c2 ps) ∧ enC us ct sg c2 ps ≤ 15 * wsum us + 118 * len rs + (if endF us ct sg = [] then 0 else adC c2 (len ps) - c2) ∧ c2 ≤ adC c2 (len ps) ∧ adC c2 (len ps) ≤ 2 * len wrs + 12 ∧ len rs = us.length := sorry
theorem rd_84F {rs ps ct : List Int} {us : List Wo} {done : List Mb} {cm ia ig c ec c2 ep x12 : Int} (hd : 15 ≤ d) (F : RDF ω Θ a p q wl wrs ws) (X : RDXF ω Θ Θ1 a p q wrs ws T k g rs ps us ct done cm ia ig c ec c2 ep) (hk : k < len wrs) (hG : 15 * wsum ws + 122 * len wrs + 40 ≤ (G : Int)) (hc0 : CutO ω Θ1 x12 (wo ws k)) (hsw : (wo ws k).1 = 12 → 0 < len (wo ws k).2)
    (hy : ia = 0 ∧ (isG (wo ws k) 44 ∨ isG (wo ws k) 59 ∨ isG (wo ws k) 58)) (hkd : ¬ (wo ws k).1 = 13) (ih : ∀ Θ2 g2, RDIF ω Θ Θ2 a p q wrs ws T (k + 1) g2 → W2_X26_read_2 ω d G a wl (k + 1) g2 Θ2 Q) : W2_X26_read_84 ω d G a wl k x12 g Θ1 Q := sorry
theorem u_X26_readF {e1 e2 : Int} (hd : 15 ≤ d) (F : RDF ω Θ a p q wl wrs ws) (ha : xo Θ a = (39, [p, q, -1, 0, 0], 0, 0)) (hq : xo Θ q = (3, [], 0, e2)) (hp : xo Θ p = (3, [], 0, e1)) (hG : 15 * wsum ws + 122 * len wrs + 40 ≤ (G : Int))
    (hQ : ∀ Θ' rn c3 e3, GrX (exA a p q) Θ Θ' → (∃ x c ig, xo Θ' a = (39, [p, q, -1, 0, ig], 0, 0) ∧ xo Θ' q = (3, [], c, x)) → xo Θ' p = (3, rn, c3, e3) → all2 (MbO Θ') rn (adR ws [] [] 0) → (∀ r, r ∈ rn → kd Θ r = 0) → (∃ gp, LI rn c3 0 gp) → Q Θ') : w2_X26_read ω d G a wl Θ Q := sorry
end RDX

/-! 76.b1.lean.txt -/
/-! how long what addresses say is -/
set_option maxRecDepth 100000
/-- how many are not 0, from a place on -/
def nzF (l : List Int) (k : Int) : Int := (((l.drop k.toNat).filter (fun c => decide (c ≠ 0))).length : Int)
theorem nzF_nn {l : List Int} {k : Int} : 0 ≤ nzF l k := Int.natCast_nonneg _
theorem nzF_s {l : List Int} {k : Int} (h : 0 ≤ k ∧ k < len l) : nzF l k = (if gt l k = 0 then 0 else 1) + nzF l (k + 1) := sorry
theorem nzF_mono {l : List Int} : ∀ (N : Nat) (k j : Int), (j - k).toNat = N → 0 ≤ k → k ≤ j → nzF l j ≤ nzF l k := sorry
theorem upT_t {l : List Int} {q : Int} : ∀ (N : Nat) (k : Int), (len l - k).toNat = N → 0 ≤ k → len (upT l q k) ≤ max 0 (len l - k) := sorry
theorem cmT_t {l : List Int} : ∀ (N : Nat) (k D : Int), (len l - k).toNat = N → 0 ≤ k → len (cmT l k D) ≤ max 0 (len l - k) := sorry
theorem cuA_t {l : List Int} : ∀ (N : Nat) (k : Int), (len l - k).toNat = N → 0 ≤ k → wsum (cuA l k) ≤ max 0 (len l - k) + nzF l k := sorry
theorem wsum_mono {us : List Wo} : ∀ (N : Nat) (k j : Int), (j - k).toNat = N → 0 ≤ k → k ≤ j → wsum (us.drop j.toNat) ≤ wsum (us.drop k.toNat) := sorry
theorem ttF_t {us : List Wo} {n : Int} (hn : n ≤ (us.length : Int)) : ∀ (N : Nat) (k : Int), (n - k).toNat = N → 0 ≤ k → k ≤ n → len (ttF us n k) + wsum (us.drop n.toNat) ≤ wsum (us.drop k.toNat) := sorry
theorem dtT_t {us : List Wo} {t y : Int} : ∀ (N : Nat) (k : Int), (t - k).toNat = N → 0 ≤ k → 0 ≤ dtE us t y k → len (dtT us t y k) + wsum (us.drop (dtE us t y k).toNat) ≤ wsum (us.drop k.toNat) := sorry
/-- how long what a mailbox says is -/
def mbL (v : Mb) : Int := len v.1 + len v.2.1 + len v.2.2
theorem wo_in {us : List Wo} {k : Int} {i : Nat} (h : (wo us k).1 = i) (hi : i ≠ 0) : k.toNat < us.length := sorry
theorem spS_t {us : List Wo} {f t : Int} {lo dm : List Int} (f0 : 0 ≤ f) (h : spS us f t = some (lo, dm)) : len lo + len dm ≤ wsum (us.drop f.toNat) := sorry
theorem mbS_t {us : List Wo} {ct : List Int} {A f t : Int} {v : Mb} (hA : 0 ≤ A ∧ A ≤ (us.length : Int)) (hf : 0 < f → A ≤ f) (h : mbS us ct A f t = some v) : mbL v ≤ wsum us + len ct := sorry
theorem brF_ge {us : List Wo} {f t : Int} : ∀ (N : Nat) (k : Int), (t - k).toNat = N → f ≤ k → brF us f t k = -1 ∨ f ≤ brF us f t k := sorry
theorem mbF_t {us : List Wo} {ct : List Int} {v : Mb} (h : mbF us ct = some v) : mbL v ≤ wsum us + len ct := sorry
theorem adR_t : ∀ (ws us : List Wo) (ct : List Int) (ia : Int), ∀ v, v ∈ adR ws us ct ia → mbL v ≤ wsum ws + wsum us + len ct := sorry
/-- the mailboxes of a value -/
def mxF (l : List Int) : List Mb := adR (cuA l 0) [] [] 0
theorem mxF_t {l : List Int} : ∀ v, v ∈ mxF l → mbL v ≤ len l + nzF l 0 := sorry
/-! 76.b2.lean.txt -/
/-! contents: mailboxes, sources -/
set_option maxRecDepth 100000
def byW (us : List Wo) : Prop := ∀ w, w ∈ us → byt w.2
theorem byt_nil : byt [] := fun x hx => (List.not_mem_nil hx).elim
theorem byt_ap {a b : List Int} (h1 : byt a) (h2 : byt b) : byt (a ++ b) := fun x hx => (List.mem_append.mp hx).elim (h1 x) (h2 x)
theorem byt_1 {c : Int} (h : 0 ≤ c ∧ c < 256) : byt [c] := fun x hx => by rw [List.mem_singleton.mp hx]; exact h
theorem wo_b {us : List Wo} {k : Int} (h : byW us) : byt (wo us k).2 := sorry
theorem ttF_b {us : List Wo} {n : Int} (h : byW us) : ∀ (N : Nat) (k : Int), (n - k).toNat = N → byt (ttF us n k) := sorry
theorem dtT_b {us : List Wo} {t y : Int} (h : byW us) : ∀ (N : Nat) (k : Int), (t - k).toNat = N → byt (dtT us t y k) := sorry
theorem spS_b {us : List Wo} {f t : Int} {lo dm : List Int} (hb : byW us) (h : spS us f t = some (lo, dm)) : byt lo ∧ byt dm := sorry
def mbB (v : Mb) : Prop := byt v.1 ∧ byt v.2.1 ∧ byt v.2.2
theorem mbS_b {us : List Wo} {ct : List Int} {A f t : Int} {v : Mb} (hb : byW us) (hc : byt ct) (h : mbS us ct A f t = some v) : mbB v := sorry
theorem mbF_b {us : List Wo} {ct : List Int} {v : Mb} (hb : byW us) (hc : byt ct) (h : mbF us ct = some v) : mbB v := sorry
theorem adR_b : ∀ (ws us : List Wo) (ct : List Int) (ia : Int), byW ws → byW us → byt ct → ∀ v, v ∈ adR ws us ct ia → mbB v := sorry
theorem mxF_b {l : List Int} (hb : byt l) : ∀ v, v ∈ mxF l → mbB v := sorry
/-- a text -/
def TxO (Θ : Th) (t : Int) (l : List Int) : Prop := ∃ c e, Fx Θ t (20, l, c, e)
theorem TxO.le {Θ Θ1 : Th} {t : Int} {l : List Int} (h : TxO Θ t l) (L : Le Θ Θ1) : TxO Θ1 t l := by obtain ⟨c, e, h⟩ := h; exact ⟨c, e, h.le L⟩
def shT (v : Mb) : List Int := tfF (enR v.1 0 [] false)
def shA (v : Mb) : List Int := tfF (utf8 (adS v.2.1 v.2.2))
/-- a mailbox, as it is or as it is shown, too -/
def MbS (Θ : Th) (r : Int) (v : Mb) : Prop := ∃ a b c x y, xo Θ r = (42, [a, b, c, x, y], 0, 0) ∧ Str Θ a v.1 ∧ Str Θ b v.2.1 ∧ Str Θ c v.2.2 ∧ ¬ fz Θ r ∧ (x = -1 ∧ y = -1 ∨ TxO Θ x (shT v) ∧ TxO Θ y (shA v))
def MbD (Θ : Th) (r : Int) (v : Mb) : Prop := ∃ a b c x y, xo Θ r = (42, [a, b, c, x, y], 0, 0) ∧ Str Θ a v.1 ∧ Str Θ b v.2.1 ∧ Str Θ c v.2.2 ∧ TxO Θ x (shT v) ∧ TxO Θ y (shA v)
theorem MbO.s {Θ : Th} {r : Int} {v : Mb} (h : MbO Θ r v) : MbS Θ r v := sorry
theorem MbS.kd {Θ : Th} {r : Int} {v : Mb} (h : MbS Θ r v) : kd Θ r = 42 := by obtain ⟨a, b, c, x, y, h1, -⟩ := h; exact kd_of h1
theorem MbS.keep {Θ Θ1 : Th} {r : Int} {v : Mb} {ex : Int → Prop} (h : MbS Θ r v) (g : GrX ex Θ Θ1) (hn : ¬ ex r) : MbS Θ1 r v := sorry
/-- what is read of a mailbox -/
def srF (v : Mb) : List Int := enR v.1 0 [] false ++ [32] ++ utf8 (adS v.2.1 v.2.2) ++ [32]
section MXB
variable {ω : AO} {d G : Nat} {Θ Θ1 : Th} {a p q m tl ch arr t x : Int} {n l rs prs : List Int} {ens : List Ev} {ls : List (List Int)} {v : Mb}
theorem u_X19_mailboxes {Q : Int → Th → Prop} {F sh hg : List Int} {M : Int} (hd : 18 ≤ d) (h : xo Θ a = (32, F, 0, 0)) (h0 : gt F 0 = p) (hp : PtO Θ p rs prs ls ens sh hg) (hr0 : 0 < len rs) (hok : hdOk (evH (en ens 0))) (hn : Str Θ q n) (hM : len (vlF (evH (en ens 0)) n) ≤ M ∧ M ≤ 90000) (hG : 187 * M + 300 ≤ (G : Int))
    (hQ : ∀ w rw c e gp Θ', Gr Θ Θ' → xo Θ' w = (3, rw, c, e) → ¬ fz Θ' w → LI rw c 0 gp → all2 (MbO Θ') rw (mxF (vlF (evH (en ens 0)) n)) → (∀ r, r ∈ rw → kd Θ r = 0) → kd Θ w = 0 → Q w Θ') : w2_X19_mailboxes ω d G a q Θ Q := sorry
end MXB

/-! 76.b3.lean.txt -/
/-! contents: what is read of a mailbox -/
set_option maxRecDepth 100000
theorem rwN1 {c n : Int} (h : 8 ≤ c) (hn : 0 ≤ n) : 0 ≤ rwK c n ∧ rwK c n ≤ rwC c n - c ∧ c ≤ rwC c n ∧ rwC c n ≤ max c (2 * (n + 1)) := sorry
section MXC
variable {ω : AO} {d G : Nat} {Θ Θ1 : Th} {a p q m tl ch arr t x : Int} {n l rs prs : List Int} {v : Mb}
theorem u_X19_source {Q : Int → Th → Prop} {F : List Int} (hd : 16 ≤ d) (h : MbS Θ m v) (ht : xo Θ tl = (16, F, 0, 0)) (h0 : gt F 0 = ch) (hch : CHS Θ ch arr) (hb : mbB v) (hl : mbL v ≤ 1890) (hG : 70 * mbL v + 430 ≤ (G : Int))
    (hQ : ∀ t Θ', GrX (fun z => z = m ∨ z = arr) Θ Θ' → CHS Θ' ch arr → MbS Θ' m v → MbD Θ' m v → TxO Θ' t (tfF (srF v)) → 0 ≤ t → kd Θ t = 0 → Q t Θ') : w2_X19_source ω d G m tl Θ Q := sorry
end MXC

/-! 76.b4.lean.txt -/
/-! contents: how long a decoded body is, bytes of a value's pieces -/
set_option maxRecDepth 100000
theorem qpL_t {l : List Int} {a e y : Int} (h : 0 ≤ a ∧ a ≤ e ∧ e ≤ len l) : ((qpL l a e y).length : Int) ≤ e - a + (if y = 0 then 0 else 2) := sorry
theorem qpA_t {l : List Int} : ∀ (N : Nat) (k : Int), (len l - k).toNat = N → 0 ≤ k → ((qpA l k).length : Int) ≤ max 0 (len l - k) + nzF l k := sorry
theorem uuG_t {l : List Int} {t : Int} : ∀ (N : Nat) (n p : Int), (t - p).toNat = N → ((uuG l t n p).length : Int) ≤ (if p < t then t - p + 2 else 0) := sorry
theorem uuA_t {l : List Int} : ∀ (N : Nat) (b k : Int), (len l - k).toNat = N → 0 ≤ k → ((uuA l b k).length : Int) ≤ (if k < len l then len l - k + 1 else 0) := sorry
theorem byt_gt {l : List Int} (h : byt l) (k : Int) : 0 ≤ gt l k ∧ gt l k < 256 := sorry
theorem byt_cons {a : Int} {b : List Int} (h1 : 0 ≤ a ∧ a < 256) (h2 : byt b) : byt (a :: b) := sorry
theorem byt_take {l : List Int} (h : byt l) (n : Nat) : byt (l.take n) := fun x hx => h x (List.mem_of_mem_take hx)
theorem qpG_byt {l : List Int} {e : Int} (h : byt l) : ∀ (N : Nat) (k : Int), (e - k).toNat = N → byt (qpG l e k) := sorry
theorem qpA_byt {l : List Int} (h : byt l) : ∀ (N : Nat) (k : Int), (len l - k).toNat = N → byt (qpA l k) := sorry
theorem uuG_byt {l : List Int} {t : Int} : ∀ (N : Nat) (n p : Int), (t - p).toNat = N → byt (uuG l t n p) := sorry
theorem uuA_byt {l : List Int} : ∀ (N : Nat) (b k : Int), (len l - k).toNat = N → byt (uuA l b k) := sorry
/-- a body, its coding taken off -/
def dcF (cd l : List Int) : List Int := if lkI tb_X2_coding cd = 0 then unbase 0 0 l else if lkI tb_X2_coding cd = 1 then qpA l 0 else if lkI tb_X2_coding cd = 2 then uuA l 0 0 else l
theorem dcF_byt {cd l : List Int} (h : byt l) : byt (dcF cd l) := sorry
theorem dcF_t {cd l : List Int} : len (dcF cd l) ≤ len l + nzF l 0 + 1 := sorry
/-- pieces of a value -/
theorem uqG_ok {l : List Int} (h : byt l) : ∀ (N : Nat) (k : Int) (t : List Int), (len l - k).toNat = N → 0 ≤ k → uqG l k = some t → byt t ∧ len t ≤ max 0 (len l - k) := sorry
theorem uqF_ok {l : List Int} (h : byt l) : byt (uqF l) ∧ len (uqF l) ≤ len l := sorry
theorem len_sub_le {l : List Int} {i j : Int} : len (sub l i j) ≤ len l := sorry
theorem paV_ok {it : List Int} (h : byt it) : byt (paV it) ∧ len (paV it) ≤ len it := sorry
theorem vaG_ok {l : List Int} (h : byt l) : ∀ (N : Nat) (k : Int), (len l + 1 - k).toNat = N → 0 ≤ k → ∀ x, x ∈ vaG l k → byt x ∧ len x ≤ len l := sorry
theorem pa_ok {n : Int} : ∀ (its : List (List Int)) (ps : List (List Int × List Int)), (∀ x, x ∈ its → byt x ∧ len x ≤ n) → (∀ q, q ∈ ps → byt q.2 ∧ len q.2 ≤ n) → ∀ q, q ∈ its.foldl paF ps → byt q.2 ∧ len q.2 ≤ n := sorry
theorem vaP_ok {l : List Int} (h : byt l) : ∀ q, q ∈ vaP l → byt q.2 ∧ len q.2 ≤ len l := sorry
theorem fdF_in {n v : List Int} : ∀ {ps : List (List Int × List Int)}, fdF ps n = some v → ∃ q, q ∈ ps ∧ q.2 = v := sorry
theorem vlF_ok {n : List Int} {m : Int} {ps : List (List Int × List Int)} (hm : 0 ≤ m) (h : ∀ q, q ∈ ps → byt q.2 ∧ len q.2 ≤ m) : byt (vlF ps n) ∧ len (vlF ps n) ≤ m := sorry
theorem byt_jnT : ∀ {X : List (List Int)}, (∀ x, x ∈ X → byt x) → byt (jnT X) := sorry
theorem byt_bodF {ls : List (List Int)} {b t : Int} (h : ∀ x, x ∈ ls → byt x) : byt (bodF ls b t) := sorry
/-- the charset of a value, its text -/
def CHN : List Int := [99, 104, 97, 114, 115, 101, 116]
def stN (ct : List (List Int × List Int)) : Int := match fdF ct CHN with
  | some v => csF (v.map lowB)
  | none => -1
def stX (ct : List (List Int × List Int)) : Int := if stN ct < 0 then 4 else stN ct
def tcF (ct : List (List Int × List Int)) (cd ty l : List Int) : List Int :=
  if ty = HTM then pgF (tfF (chsF (stX ct) (dcF cd l))) else tfF (chsF (stX ct) (dcF cd l))
theorem stX_in {ct : List (List Int × List Int)} : 0 ≤ stX ct ∧ stX ct < 10 := sorry
/-! 76.b5.lean.txt -/
/-! contents: an entity's text -/
set_option maxRecDepth 100000
def tdF (set : Int) (ty l : List Int) : List Int := if ty = HTM then pgF (tfF (chsF set l)) else tfF (chsF set l)
theorem tcF_eq {ct : List (List Int × List Int)} {cd ty l : List Int} : tcF ct cd ty l = tdF (stX ct) ty (dcF cd l) := rfl
theorem CHS.fr {Θ : Th} {a arr : Int} {A : Int → Prop} (h : CHS Θ a arr) (h1 : ¬ A a) (h2 : ¬ A arr) : CHS (fr Θ A) a arr := sorry
theorem csF_ge (t : List Int) : -1 ≤ csF t := sorry
section TXO
variable {ω : AO} {d G g : Nat} {Θ : Th} {a l1 l2 l3 l7 ch arr set : Int} {F B ty : List Int}
theorem u_to102 {Q : Int → Th → Prop} (hd : 20 ≤ d) (he : Fx Θ l1 (35, F, 0, 0)) (h9 : Str Θ (gt F 9) ty) (hch : CHS Θ ch arr) (k3 : kd Θ l3 = 19) (v3 : vv Θ l3 = B) (hb : byt B) (hl : len B ≤ 1900) (h7 : 0 ≤ l7) (x7 : xo Θ l7 = (19, [], 8, 0)) (f7 : ¬ fz Θ l7) (hne : l3 ≠ l7) (hs : 0 ≤ set ∧ set < 10)
    (hG : g + 100 * len B + 500 ≤ (G : Int)) (hQ : ∀ t Θ', GrX (fun z => z = arr ∨ z = l7) Θ Θ' → CHS Θ' ch arr → (∃ c e, xo Θ' t = (20, tdF set ty B, c, e)) → -1 ≤ t → kd Θ t = 0 → Q t Θ') : W2_X19_textOf_102 ω d G l1 l3 l7 set ch g Θ Q := sorry
theorem u_to76 {Q : Int → Th → Prop} {FT : List Int} {s0 : Int} (hd : 20 ≤ d) (he : Fx Θ l1 (35, F, 0, 0)) (h9 : Str Θ (gt F 9) ty) (ht : xo Θ l2 = (16, FT, 0, 0)) (hT : gt FT 0 = ch) (hch : CHS Θ ch arr) (k3 : kd Θ l3 = 19) (v3 : vv Θ l3 = B) (hb : byt B) (hl : len B ≤ 1900) (hs : inI s0 ∧ s0 < 10)
    (hG : g + 100 * len B + 510 ≤ (G : Int)) (hQ : ∀ t Θ', GrX (· = arr) Θ Θ' → CHS Θ' ch arr → (∃ c e, xo Θ' t = (20, tdF (if s0 < 0 then 4 else s0) ty B, c, e)) → -1 ≤ t → kd Θ t = 0 → Q t Θ') : W2_X19_textOf_76 ω d G l1 l2 l3 s0 g Θ Q := sorry
theorem u_to47 {Q : Int → Th → Prop} {FT hh : List Int} {ct : List (List Int × List Int)} (hd : 20 ≤ d) (he : Fx Θ l1 (35, F, 0, 0)) (h9 : Str Θ (gt F 9) ty) (h12 : VaO Θ (gt F 12) hh ct) (hcl : ct.length ≤ 100000) (hcb : ∀ q, q ∈ ct → byt q.2 ∧ len q.2 ≤ 2000) (ht : xo Θ l2 = (16, FT, 0, 0)) (hT : gt FT 0 = ch) (hch : CHS Θ ch arr) (k3 : kd Θ l3 = 19) (v3 : vv Θ l3 = B) (hb : byt B) (hl : len B ≤ 1900)
    (hG : g + 100 * len B + 540 + 5 * len (vlF ct CHN) ≤ (G : Int)) (hQ : ∀ t Θ', GrX (· = arr) Θ Θ' → CHS Θ' ch arr → (∃ c e, xo Θ' t = (20, tdF (stX ct) ty B, c, e)) → -1 ≤ t → kd Θ t = 0 → Q t Θ') : W2_X19_textOf_47 ω d G l1 l2 l3 g Θ Q := sorry
theorem u_X19_textOf {Q : Int → Th → Prop} {FT CF : List Int} {p s i no dp f t pr bd : Int} {ps : List (List Int × List Int)} {ls : List (List Int)} {g0 : Bool} (hd : 21 ≤ d) (hc : xo Θ a = (32, CF, 0, 0)) (hc0 : gt CF 0 = p) (hp : kd Θ p = 33) (h3 : gt (vv Θ p) 3 = s) (hls : LiO Θ s ls) (he : EnO Θ l1 i no dp f t pr ps bd g0)
    (hb0 : 0 ≤ bd) (hbt : bd ≤ t) (ht9 : t ≤ (ls.length : Int)) (hsz : szF ls t ≤ 90000) (ht8 : t ≤ 1000000) (hlb : ∀ x, x ∈ ls → byt x) (hcl : (vaP (vlF ps CTY)).length ≤ 100000) (hcb : ∀ q, q ∈ vaP (vlF ps CTY) → byt q.2 ∧ len q.2 ≤ 2000) (hcd : wide (enCd ps) = 0) (hbl : len (bodF ls bd t) + nzF (bodF ls bd t) 0 ≤ 1890)
    (ht : xo Θ l2 = (16, FT, 0, 0)) (hT : gt FT 0 = ch) (hch : CHS Θ ch arr) (hG : 110 * len (bodF ls bd t) + 103 * nzF (bodF ls bd t) 0 + 800 + 5 * len (vlF (vaP (vlF ps CTY)) CHN) ≤ (G : Int))
    (hQ : ∀ x Θ', GrX (· = arr) Θ Θ' → CHS Θ' ch arr → (∃ c e, Fx Θ' x (20, tcF (vaP (vlF ps CTY)) (enCd ps) (enTy ps g0) (bodF ls bd t), c, e)) → -1 ≤ x → kd Θ x = 0 → Q x Θ') : w2_X19_textOf ω d G a l1 l2 Θ Q := sorry
end TXO

/-! 76.b6.lean.txt -/
/-! contents: words and where they stand -/
set_option maxRecDepth 100000
/-- the capacity of a row of n hits -/
def hC (n : Nat) : Int := rwN 8 0 n
theorem hC_s (n : Nat) : hC (n + 1) = rwC (hC n) (n : Int) := sorry
theorem hC_in (n : Nat) : 8 ≤ hC n ∧ hC n ≤ max 8 (2 * (n : Int)) := sorry
def HtO (Θ : Th) (v : Int) (l : List Int) : Prop := xo Θ v = (23, l, hC l.length, 0) ∧ ¬ fz Θ v
theorem HtO.keep {Θ Θ1 : Th} {v : Int} {l : List Int} {ex : Int → Prop} (h : HtO Θ v l) (g : GrX ex Θ Θ1) (hn : ¬ ex v) : HtO Θ1 v l := sorry
def WbO (Θ : Th) (a p q : Int) (vs : List Int) (ks hs : List (List Int)) : Prop := SoO Θ a p q ks vs (cpZ ks.length) (cpZ ks.length) ∧ all2 (HtO Θ) vs hs ∧ vs.Nodup
abbrev exW (p q : Int) (vs : List Int) : Int → Prop := fun z => z = p ∨ z = q ∨ z ∈ vs
abbrev Wv : Type := List (List Int) × List (List Int)
/-- a place entered at a word -/
def enW (st : Wv) (w : List Int) (x : Int) : Wv :=
  if isK st.1 w = true then (st.1, st.2.set (lbK st.1 w) (enF (st.2.getD (lbK st.1 w) []) x)) else (insK st.1 w, st.2.take (lbK st.1 w) ++ enF [] x :: st.2.drop (lbK st.1 w))
def hSum : List (List Int) → Int
  | [] => 0
  | l :: r => hC l.length + hSum r
def wbG (st : Wv) : Int := 2 * cpZ st.1.length + hSum st.2
theorem hSum_app : ∀ (a b : List (List Int)), hSum (a ++ b) = hSum a + hSum b := sorry
theorem hSum_set : ∀ (a : List (List Int)) (i : Nat) (x y : List Int), a[i]? = some x → hSum (a.set i y) = hSum a - hC x.length + hC y.length := sorry
theorem hSum_ins (a : List (List Int)) (i : Nat) (y : List Int) : hSum (a.take i ++ y :: a.drop i) = hSum a + hC y.length := sorry
theorem set_same {α : Type} : ∀ (a : List α) (i : Nat) (x : α), a[i]? = some x → a.set i x = a := sorry
theorem all2_set {α : Type} {P P' : Int → α → Prop} {v : Int} {new : α} (hn : P' v new) (hk : ∀ r l, r ≠ v → P r l → P' r l) : ∀ (vs : List Int) (hs : List α) (i : Nat), all2 P vs hs → vs.Nodup → vs[i]? = some v → all2 P' vs (hs.set i new) := sorry
theorem gt_some {l : List Int} {i : Nat} (h : i < l.length) : l[i]? = some (gt l (i : Int)) := sorry
theorem enP_in {l : List Int} {x : Int} : 0 ≤ enP l x ∧ enP l x ≤ len l := sorry
theorem enF_len {l : List Int} {x : Int} : (enF l x).length = l.length + (if 0 < enP l x ∧ gt l (enP l x - 1) = x then 0 else 1) := sorry
section WBX
variable {ω : AO} {d G g : Nat} {Θ Θ1 : Th} {a b p q x : Int} {w vs : List Int} {ks hs : List (List Int)}
theorem WbO.hl (h : WbO Θ a p q vs ks hs) : vs.length = ks.length ∧ vs.length = hs.length := sorry
theorem u_X19_enter {Q : Th → Prop} (hd : 10 ≤ d) (h : WbO Θ a p q vs ks hs) (hw : Str Θ b w) (hx : inI x) (hl : ks.length ≤ 100000) (hhl : ∀ l, l ∈ hs → l.length ≤ 100000) (hG : 4 + (wbG (enW (ks, hs) w x) - wbG (ks, hs)) ≤ (G : Int))
    (hQ : ∀ Θ' vs', GrX (exW p q vs) Θ Θ' → WbO Θ' a p q vs' (enW (ks, hs) w x).1 (enW (ks, hs) w x).2 → (∀ v, v ∈ vs' → v ∈ vs ∨ kd Θ v = 0) → Q Θ') : w2_X19_enter ω d G a b x Θ Q := sorry
end WBX

/-! 76.b7.lean.txt -/
/-! contents: all words -/
set_option maxRecDepth 100000
def pcW (f : Int) (st : Wv) (p : Pc) : Wv := if p.2.2.2 = true then enW st ([97] ++ [48 + f] ++ p.1) p.2.2.1 else enW (enW st ([112] ++ [48 + f] ++ p.1) p.2.2.1) ([115] ++ [48 + f] ++ p.2.1) p.2.2.1
def woR (VS : List (List Pc)) : Nat → Nat → Wv → Wv
  | 0, _, st => st
  | n + 1, f, st => woR VS n (f + 1) ((VS.getD f []).foldl (pcW (f : Int)) st)
/-- the words of fields -/
def woF (VS : List (List Pc)) : Wv := woR VS 5 0 ([], [])
def pcG (p : Pc) : Int := 100 + 5 * (len p.1 + len p.2.1)
def pcS : List Pc → Int
  | [] => 0
  | p :: r => pcG p + pcS r
def vsS (VS : List (List Pc)) : Nat → Nat → Int
  | 0, _ => 0
  | n + 1, f => pcS (VS.getD f []) + vsS VS n (f + 1)
theorem pcG_nn (p : Pc) : 100 ≤ pcG p := sorry
theorem pcS_nn : ∀ l : List Pc, 0 ≤ pcS l := sorry
theorem vsS_nn (VS : List (List Pc)) : ∀ n f, 0 ≤ vsS VS n f := sorry
theorem hC_mono {i j : Nat} (h : i ≤ j) : hC i ≤ hC j := sorry
theorem enW_mono (st : Wv) (w : List Int) (x : Int) : wbG st ≤ wbG (enW st w x) := sorry
theorem pcW_mono (f : Int) (st : Wv) (p : Pc) : wbG st ≤ wbG (pcW f st p) := sorry
theorem pcF_mono (f : Int) : ∀ (ps : List Pc) (st : Wv), wbG st ≤ wbG (ps.foldl (pcW f) st) := sorry
theorem woR_mono (VS : List (List Pc)) : ∀ n f st, wbG st ≤ wbG (woR VS n f st) := sorry
/-- how much there is -/
def WN (st : Wv) (n : Nat) : Prop := st.1.length ≤ n ∧ ∀ l, l ∈ st.2 → l.length ≤ n
theorem WN.en {st : Wv} {n : Nat} (h : WN st n) (w : List Int) (x : Int) : WN (enW st w x) (n + 1) := sorry
/-- words that are being made -/
def WI (Θ Θ1 : Th) (a p q : Int) (st : Wv) (n : Nat) : Prop := Gr Θ Θ1 ∧ kd Θ a = 0 ∧ kd Θ p = 0 ∧ kd Θ q = 0 ∧ WN st n ∧ ∃ vs, WbO Θ1 a p q vs st.1 st.2 ∧ ∀ v, v ∈ vs → kd Θ v = 0
theorem WbO.hx {Θ : Th} {a p q : Int} {vs : List Int} {ks hs : List (List Int)} (h : WbO Θ a p q vs ks hs) : kd Θ a = 30 ∧ kd Θ p = 3 ∧ kd Θ q = 3 ∧ ∀ v, v ∈ vs → kd Θ v = 23 := sorry
theorem WbO.keep {Θ Θ1 : Th} {a p q : Int} {vs : List Int} {ks hs : List (List Int)} {ex : Int → Prop} (h : WbO Θ a p q vs ks hs) (g : GrX ex Θ Θ1) (hn : ∀ z, ex z → ¬ kd Θ z = 30 ∧ ¬ kd Θ z = 3 ∧ ¬ kd Θ z = 23) : WbO Θ1 a p q vs ks hs := sorry
theorem WI.up {Θ Θ1 Θ2 : Th} {a p q : Int} {st : Wv} {n : Nat} (h : WI Θ Θ1 a p q st n) {ex : Int → Prop} (g : GrX ex Θ1 Θ2) (hn : ∀ z, ex z → kd Θ z = 0 ∧ ¬ kd Θ1 z = 30 ∧ ¬ kd Θ1 z = 3 ∧ ¬ kd Θ1 z = 23) : WI Θ Θ2 a p q st n := sorry
theorem kz1 {Θ Θ1 : Th} {v : Int} (h0 : kd Θ v = 0) (h1 : kd Θ1 v = 1) : ∀ z, z = v → kd Θ z = 0 ∧ ¬ kd Θ1 z = 30 ∧ ¬ kd Θ1 z = 3 ∧ ¬ kd Θ1 z = 23 := sorry
section WOX
variable {ω : AO} {d G g : Nat} {Θ Θ1 : Th} {a b p q x l0 l3 l4 l5 s0 s1 f c0 : Int} {w vs : List Int} {st : Wv} {n : Nat} {pc : Pc}
theorem u_X46_text {Q : Int → Th → Prop} (h : PcO Θ a pc) (hQ : ∀ r, Str Θ r pc.1 → Q r Θ) : w2_X46_text ω d G a Θ Q := sorry
theorem u_X46_stem {Q : Int → Th → Prop} (h : PcO Θ a pc) (hQ : ∀ r, Str Θ r pc.2.1 → Q r Θ) : w2_X46_stem ω d G a Θ Q := sorry
theorem u_X46_place {Q : Int → Th → Prop} (h : PcO Θ a pc) (hQ : Q pc.2.2.1 Θ) : w2_X46_place ω d G a Θ Q := sorry
theorem u_X46_isAddress {Q : Int → Th → Prop} (h : PcO Θ a pc) (hQ : Q (b2i pc.2.2.2) Θ) : w2_X46_isAddress ω d G a Θ Q := sorry
theorem wide_in (l : List Int) : wide l = 0 ∨ wide l = 1 := sorry
theorem bK_2 {c e : Int} (h : 0 ≤ c) : 0 ≤ bK c e ∧ bK c e ≤ 2 * c := sorry
/-- what building one word costs: a builder's text of n characters behind two -/
theorem wg_le {n e : Int} (hn : 0 ≤ n) : bC 16 (2 + n) ≤ max 16 (2 * (2 + n)) ∧ 16 ≤ bC 16 (2 + n) ∧ bK (bC 16 (2 + n)) e - bK 16 0 ≤ 16 + 4 * (2 + n) := sorry
theorem u_wo73 {Q : Int → Th → Prop} (hd : 12 ≤ d) (h0 : Str Θ1 s0 [c0]) (hc0 : 0 ≤ c0 ∧ c0 < 256) (hb : xo Θ1 s1 = (1, [], 16, 0)) (hbf : ¬ fz Θ1 s1) (hbz : kd Θ s1 = 0) (hp : PcO Θ1 l5 pc) (hW : WI Θ Θ1 a p q st n) (hn : n ≤ 90000) (hf : 0 ≤ f ∧ f < 10) (hl : len pc.1 ≤ 3000) (hpl : inI pc.2.2.1)
    (hG : g + (16 + 4 * (2 + len pc.1)) + (len pc.1 + 7) + 4 + (wbG (enW st ([c0] ++ [48 + f] ++ pc.1) pc.2.2.1) - wbG st) ≤ (G : Int))
    (hQ : ∀ Θ' (g' : Nat), WI Θ Θ' a p q (enW st ([c0] ++ [48 + f] ++ pc.1) pc.2.2.1) (n + 1) → Le Θ1 Θ' → (g' : Int) ≤ g + (16 + 4 * (2 + len pc.1)) + (len pc.1 + 7) + 4 + (wbG (enW st ([c0] ++ [48 + f] ++ pc.1) pc.2.2.1) - wbG st) → W2_X19_wordsOf_99 ω d G l0 a f l3 l4 l5 g' Θ' Q) : W2_X19_wordsOf_73 ω d G l0 a f l3 l4 l5 s0 s1 a g Θ1 Q := sorry
theorem u_wo99 {Q : Int → Th → Prop} (hd : 12 ≤ d) (hp : PcO Θ1 l5 pc) (hW : WI Θ Θ1 a p q st n) (hn : n ≤ 90000) (hf : 0 ≤ f ∧ f < 10) (hl : len pc.2.1 ≤ 3000) (hpl : inI pc.2.2.1) (hgg : g ≤ G)
    (hG : pc.2.2.2 = false → g + 6 + (16 + 4 * (2 + len pc.2.1)) + (len pc.2.1 + 7) + 4 + (wbG (enW st ([115] ++ [48 + f] ++ pc.2.1) pc.2.2.1) - wbG st) ≤ (G : Int))
    (hQ1 : pc.2.2.2 = true → W2_X19_wordsOf_30 ω d G l0 a f l3 (l4 + 1) g Θ1 Q)
    (hQ0 : pc.2.2.2 = false → ∀ Θ' (g' : Nat), WI Θ Θ' a p q (enW st ([115] ++ [48 + f] ++ pc.2.1) pc.2.2.1) (n + 1) → Le Θ1 Θ' → (g' : Int) ≤ g + 6 + (16 + 4 * (2 + len pc.2.1)) + (len pc.2.1 + 7) + 4 + (wbG (enW st ([115] ++ [48 + f] ++ pc.2.1) pc.2.2.1) - wbG st) → W2_X19_wordsOf_30 ω d G l0 a f l3 (l4 + 1) g' Θ' Q) : W2_X19_wordsOf_99 ω d G l0 a f l3 l4 l5 g Θ1 Q := sorry
/-- the fields that are read -/
def FV (Θ : Th) (l0 : Int) (rs5 : List Int) (VS : List (List Pc)) : Prop := ∃ c e, xo Θ l0 = (3, rs5, c, e) ∧ len rs5 = 5 ∧ ∀ f : Nat, f < 5 → ∃ F rs cc ee, xo Θ (gt rs5 (f : Int)) = (50, F, 0, 0) ∧ xo Θ (gt F 0) = (3, rs, cc, ee) ∧ all2 (PcO Θ) rs (VS.getD f [])
theorem FV.keep {Θ Θ1 : Th} {rs5 : List Int} {VS : List (List Pc)} (h : FV Θ l0 rs5 VS) (g : Gr Θ Θ1) : FV Θ1 l0 rs5 VS := sorry
/-- a row of words and where they stand -/
def WdO (Θ : Th) (r : Int) (st : Wv) : Prop := ∃ p q rs vs d1 e1 d2 e2, Fx Θ r (53, [p, q], 0, 0) ∧ Fx Θ p (3, rs, d1, e1) ∧ all2 (Str Θ) rs st.1 ∧ Fx Θ q (3, vs, d2, e2) ∧ all2 (fun v l => ∃ c e, Fx Θ v (23, l, c, e)) vs st.2
theorem WdO.le {Θ Θ1 : Th} {r : Int} {st : Wv} (h : WdO Θ r st) (L : Le Θ Θ1) : WdO Θ1 r st := sorry
theorem u_X19_wordsOf {Q : Int → Th → Prop} {rs5 : List Int} {VS : List (List Pc)} (hd : 12 ≤ d) (hF : FV Θ l0 rs5 VS) (hm : ∀ f : Nat, f < 5 → (VS.getD f []).length ≤ 8100) (hp : ∀ f : Nat, f < 5 → ∀ p, p ∈ VS.getD f [] → len p.1 ≤ 3000 ∧ len p.2.1 ≤ 3000 ∧ inI p.2.2.1)
    (hG : 6 + vsS VS 5 0 + wbG (woF VS) + 2 * cpZ (woF VS).1.length ≤ (G : Int)) (hQ : ∀ r Θ', Gr Θ Θ' → WdO Θ' r (woF VS) → 0 ≤ r → kd Θ r = 0 → Q r Θ') : w2_X19_wordsOf ω d G l0 Θ Q := sorry
end WOX

/-! 76.b8.lean.txt -/
/-! contents: what is being made -/
set_option maxRecDepth 100000
abbrev exC (a arr s b : Int) : Int → Prop := fun z => z = a ∨ z = arr ∨ z = s ∨ z = b
/-- a field but for the stemmer -/
def FdP (Θ : Th) (a p s most : Int) (v : FdV) : Prop := ∃ rs e gp, xo Θ a = (50, [p, s, most, v.2.1, v.2.2.1, b2i v.2.2.2], 0, 0) ∧ ¬ fz Θ a ∧ xo Θ p = (3, rs, cpZ v.1.length, e) ∧ ¬ fz Θ p ∧ all2 (PcO Θ) rs v.1 ∧ LI rs (cpZ v.1.length) 0 gp
theorem FdP.z {Θ : Th} {a p s b most : Int} {v : FdV} (h : FdP Θ a p s most v) (h2 : ∃ w h, StO Θ s b w h) : FdZ Θ a p s b most v := sorry
theorem FdP.of {Θ : Th} {a p s b most : Int} {v : FdV} (h : FdZ Θ a p s b most v) : FdP Θ a p s most v ∧ ∃ w h, StO Θ s b w h := sorry
theorem FdP.keep {Θ Θ1 : Th} {a p s most : Int} {v : FdV} {ex : Int → Prop} (h : FdP Θ a p s most v) (g : GrX ex Θ Θ1) (h1 : ¬ ex a) (h2 : ¬ ex p) : FdP Θ1 a p s most v := sorry
theorem FdP.k {Θ : Th} {a p s most : Int} {v : FdV} (h : FdP Θ a p s most v) : kd Θ a = 50 ∧ kd Θ p = 3 := sorry
theorem StO.kpX {Θ Θ1 : Th} {s b h : Int} {w : List Int} {ex : Int → Prop} (H : StO Θ s b w h) (g : GrX ex Θ Θ1) (h1 : ¬ ex s) (h2 : ¬ ex b) : StO Θ1 s b w h := sorry
def LTx (Θ0 Θ : Th) (v : Int) (xs : List (List Int)) : Prop := ∃ rs e, xo Θ v = (3, rs, cpZ rs.length, e) ∧ ¬ fz Θ v ∧ all2 (TxO Θ) rs xs ∧ kd Θ0 v = 0
def LMb (Θ0 Θ : Th) (v : Int) (L : List Mb) : Prop := ∃ rs c e, xo Θ v = (3, rs, c, e) ∧ ¬ fz Θ v ∧ all2 (MbS Θ) rs L ∧ (∀ r, r ∈ rs → kd Θ0 r = 0) ∧ kd Θ0 v = 0
def LFs (Θ0 Θ : Th) (v s : Int) (fs pp : List Int) (fds : List FdV) : Prop := (∃ e, xo Θ v = (3, fs, cpZ fs.length, e)) ∧ ¬ fz Θ v ∧ kd Θ0 v = 0 ∧ fs.length = fds.length ∧ pp.length = fds.length ∧ (∀ i : Nat, i < fds.length → FdP Θ (gt fs i) (gt pp i) s 300 (fds.getD i ([], 0, 0, false))) ∧ fs.Nodup ∧ (∀ z, z ∈ fs → kd Θ0 z = 0) ∧ (∀ z, z ∈ pp → kd Θ0 z = 0)
theorem LTx.keep {Θ0 Θ Θ1 : Th} {v : Int} {xs : List (List Int)} {ex : Int → Prop} (h : LTx Θ0 Θ v xs) (g : GrX ex Θ Θ1) (hn : ¬ ex v) : LTx Θ0 Θ1 v xs := sorry
theorem LMb.keep {Θ0 Θ Θ1 : Th} {v : Int} {L : List Mb} {ex : Int → Prop} (h : LMb Θ0 Θ v L) (g : GrX ex Θ Θ1) (hn : ¬ ex v) (hk : ∀ r w, MbS Θ r w → MbS Θ1 r w) : LMb Θ0 Θ1 v L := sorry
theorem LFs.keep {Θ0 Θ Θ1 : Th} {v s : Int} {fs pp : List Int} {fds : List FdV} {ex : Int → Prop} (h : LFs Θ0 Θ v s fs pp fds) (g : GrX ex Θ Θ1) (hn : ¬ ex v) (h1 : ∀ z, z ∈ fs → ¬ ex z) (h2 : ∀ z, z ∈ pp → ¬ ex z) : LFs Θ0 Θ1 v s fs pp fds := sorry
theorem LTx.add {Θ0 Θ Θ1 : Th} {v x k : Int} {xs : List (List Int)} {t : List Int} (h : LTx Θ0 Θ v xs) (hx : TxO Θ x t) (e : Θ1 = uq Θ v (3, vv Θ v ++ [x], adC (cp Θ v) (len (vv Θ v)), k)) : LTx Θ0 Θ1 v (xs ++ [t]) ∧ GrX (· = v) Θ Θ1 := sorry
theorem LTx.rd {Θ0 Θ : Th} {v : Int} {xs : List (List Int)} (h : LTx Θ0 Θ v xs) : kd Θ v = 3 ∧ ¬ fz Θ v ∧ cp Θ v = cpZ xs.length ∧ len (vv Θ v) = (xs.length : Int) ∧ adC (cp Θ v) (len (vv Θ v)) = cpZ (xs.length + 1) ∧ kd Θ0 v = 0 := sorry
/-- what is around -/
def CX (Θ0 Θ : Th) (a tl ch arr s b : Int) (FT F : List Int) : Prop :=
  GrX (exC a arr s b) Θ0 Θ ∧ xo Θ a = (32, F, 0, 0) ∧ ¬ fz Θ a ∧ xo Θ tl = (16, FT, 0, 0) ∧ CHS Θ ch arr ∧ (∃ w h, StO Θ s b w h) ∧ (kd Θ0 a = 32 ∧ kd Θ0 arr = 108 ∧ kd Θ0 s = 18 ∧ kd Θ0 b = 103 ∧ kd Θ0 tl = 16 ∧ kd Θ0 ch = 17) ∧ gt FT 0 = ch ∧ gt FT 1 = s
theorem CX.hk {Θ0 Θ : Th} {a tl ch arr s b : Int} {FT F : List Int} (h : CX Θ0 Θ a tl ch arr s b FT F) : ∀ z, exC a arr s b z → 0 < kd Θ0 z ∧ kd Θ0 z < 200 := sorry
theorem CX.kq {Θ0 Θ : Th} {a tl ch arr s b z : Int} {FT F : List Int} (h : CX Θ0 Θ a tl ch arr s b FT F) (hz : 0 < kd Θ0 z ∧ kd Θ0 z < 200) : kd Θ z = kd Θ0 z := h.1.1.2.1 z hz.1 hz.2
theorem CX.old {Θ0 Θ : Th} {a tl ch arr s b z : Int} {FT F : List Int} (h : CX Θ0 Θ a tl ch arr s b FT F) (hz : kd Θ z = 0) : kd Θ0 z = 0 := old0 h.1 h.hk hz
theorem CX.gen {Θ0 Θ Θ1 : Th} {a tl ch arr s b : Int} {FT F : List Int} {ex : Int → Prop} (h : CX Θ0 Θ a tl ch arr s b FT F) (g : GrX ex Θ Θ1) (he : ∀ z, ex z → kd Θ0 z = 0 ∨ z = arr ∨ z = s ∨ z = b) (hc : CHS Θ1 ch arr) (hs : ∃ w h, StO Θ1 s b w h) : CX Θ0 Θ1 a tl ch arr s b FT F := sorry
/-- a step that alters what is new, or the charsets -/
theorem CX.keep {Θ0 Θ Θ1 : Th} {a tl ch arr s b : Int} {FT F : List Int} {ex : Int → Prop} (h : CX Θ0 Θ a tl ch arr s b FT F) (g : GrX ex Θ Θ1) (he : ∀ z, ex z → kd Θ0 z = 0 ∨ z = arr) (hc : ex arr → CHS Θ1 ch arr) : CX Θ0 Θ1 a tl ch arr s b FT F := sorry
theorem gt_setN {l : List Int} {i j : Nat} {x : Int} (h : i ≠ j) : gt (l.set i x) (j : Int) = gt l (j : Int) := sorry
theorem CX.pset {Θ0 Θ Θ1 : Th} {a tl ch arr s b x : Int} {FT F : List Int} {i : Nat} (h : CX Θ0 Θ a tl ch arr s b FT F) (e : Θ1 = pf Θ a (i : Int) x) : CX Θ0 Θ1 a tl ch arr s b FT (F.set i x) ∧ GrX (· = a) Θ Θ1 := sorry
/-! 76.b9.lean.txt -/
/-! contents: how what is being made goes on -/
set_option maxRecDepth 100000
theorem MbD.kp {Θ Θ1 : Th} {r : Int} {v : Mb} {ex : Int → Prop} (h : MbD Θ r v) (g : GrX ex Θ Θ1) (hn : ¬ ex r) : MbD Θ1 r v := sorry
theorem MbD.ke {Θ : Th} {r : Int} {v : Mb} (h : MbD Θ r v) : kd Θ r = 42 := by obtain ⟨a, b, c, x, y, h1, -⟩ := h; exact kd_of h1
theorem Str.inj {Θ : Th} {a : Int} {l m : List Int} (h1 : Str Θ a l) (h2 : Str Θ a m) : l = m := by rw [← h1.vl, ← h2.vl]
theorem MbS.inj {Θ : Th} {r : Int} {v w : Mb} (h1 : MbS Θ r v) (h2 : MbS Θ r w) : v = w := sorry
theorem MbD.inj {Θ : Th} {r : Int} {v w : Mb} (h1 : MbS Θ r v) (h2 : MbD Θ r w) : v = w := sorry
theorem all2_ts {α : Type} {P : Int → α → Prop} {rs : List Int} {xs : List α} {n : Nat} {x : α} (h : all2 P (rs.take n) (xs.take n)) (hn : n < rs.length) (hx : xs[n]? = some x) (hp : P (gt rs (n : Int)) x) : all2 P (rs.take (n + 1)) (xs.take (n + 1)) := sorry
/-- mailboxes, of which so many are done -/
def LMd (Θ0 Θ : Th) (v : Int) (L : List Mb) (n : Nat) : Prop := ∃ rs c e, xo Θ v = (3, rs, c, e) ∧ ¬ fz Θ v ∧ all2 (MbS Θ) rs L ∧ all2 (MbD Θ) (rs.take n) (L.take n) ∧ (∀ r, r ∈ rs → kd Θ0 r = 0) ∧ kd Θ0 v = 0
theorem LMd.of {Θ0 Θ : Th} {v : Int} {L : List Mb} (h : LMb Θ0 Θ v L) : LMd Θ0 Θ v L 0 := sorry
theorem LMd.keep {Θ0 Θ Θ1 : Th} {v : Int} {L : List Mb} {n : Nat} {ex : Int → Prop} (h : LMd Θ0 Θ v L n) (g : GrX ex Θ Θ1) (hn : ¬ ex v) (hk : ∀ r w, MbS Θ r w → MbS Θ1 r w) (hk2 : ∀ r w, MbD Θ r w → MbD Θ1 r w) : LMd Θ0 Θ1 v L n := sorry
theorem LMd.ke {Θ0 Θ : Th} {v : Int} {L : List Mb} {n : Nat} (h : LMd Θ0 Θ v L n) : kd Θ v = 3 ∧ kd Θ0 v = 0 := sorry
theorem LFs.ke {Θ0 Θ : Th} {v s : Int} {fs pp : List Int} {fds : List FdV} (h : LFs Θ0 Θ v s fs pp fds) : kd Θ v = 3 ∧ kd Θ0 v = 0 ∧ (∀ z, z ∈ fs → kd Θ z = 50) ∧ (∀ z, z ∈ pp → kd Θ z = 3) := sorry
abbrev dj3 (F pp : List Int) : List Int := gt F 3 :: gt F 4 :: gt F 6 :: pp
def DJ (F pp : List Int) : Prop := (dj3 F pp).Nodup ∧ gt F 1 ∉ dj3 F pp ∧ gt F 2 ∉ dj3 F pp
/-- a content that is being made -/
def CSt (Θ0 Θ : Th) (a tl ch arr s b : Int) (FT F : List Int) (frL toL : List Mb) (n1 n2 : Nat) (tx nm : List (List Int)) (fs pp : List Int) (fds : List FdV) : Prop :=
  CX Θ0 Θ a tl ch arr s b FT F ∧ LMd Θ0 Θ (gt F 1) frL n1 ∧ LMd Θ0 Θ (gt F 2) toL n2 ∧ LTx Θ0 Θ (gt F 3) tx ∧ LTx Θ0 Θ (gt F 4) nm ∧ LFs Θ0 Θ (gt F 6) s fs pp fds ∧ DJ F pp
section CST
variable {Θ0 Θ Θ1 : Th} {a tl ch arr s b x m : Int} {FT F : List Int} {frL toL : List Mb} {n1 n2 : Nat} {tx nm : List (List Int)} {fs pp : List Int} {fds : List FdV} {ex : Int → Prop}
theorem CSt.karr (h : CSt Θ0 Θ a tl ch arr s b FT F frL toL n1 n2 tx nm fs pp fds) : kd Θ arr = 108 := sorry
/-- a step that alters the charsets or what is new, but no list, mailbox or field -/
theorem CSt.keep (h : CSt Θ0 Θ a tl ch arr s b FT F frL toL n1 n2 tx nm fs pp fds) (g : GrX ex Θ Θ1) (he : ∀ z, ex z → (kd Θ0 z = 0 ∧ kd Θ z ≠ 3 ∧ kd Θ z ≠ 42 ∧ kd Θ z ≠ 50) ∨ z = arr) (hc : ex arr → CHS Θ1 ch arr) : CSt Θ0 Θ1 a tl ch arr s b FT F frL toL n1 n2 tx nm fs pp fds := sorry
theorem CSt.txA (h : CSt Θ0 Θ a tl ch arr s b FT F frL toL n1 n2 tx nm fs pp fds) {k : Int} {t : List Int} (hx : TxO Θ x t) (e : Θ1 = uq Θ (gt F 3) (3, vv Θ (gt F 3) ++ [x], adC (cp Θ (gt F 3)) (len (vv Θ (gt F 3))), k)) : CSt Θ0 Θ1 a tl ch arr s b FT F frL toL n1 n2 (tx ++ [t]) nm fs pp fds ∧ GrX (· = gt F 3) Θ Θ1 := sorry
theorem CSt.nmA (h : CSt Θ0 Θ a tl ch arr s b FT F frL toL n1 n2 tx nm fs pp fds) {k : Int} {t : List Int} (hx : TxO Θ x t) (e : Θ1 = uq Θ (gt F 4) (3, vv Θ (gt F 4) ++ [x], adC (cp Θ (gt F 4)) (len (vv Θ (gt F 4))), k)) : CSt Θ0 Θ1 a tl ch arr s b FT F frL toL n1 n2 tx (nm ++ [t]) fs pp fds ∧ GrX (· = gt F 4) Θ Θ1 := sorry
/-- a mailbox's texts are made -/
theorem CSt.src (h : CSt Θ0 Θ a tl ch arr s b FT F frL toL n1 n2 tx nm fs pp fds) {v : Mb} (hm : MbS Θ m v) (hz : kd Θ0 m = 0) (g : GrX (fun z => z = m ∨ z = arr) Θ Θ1) (hc : CHS Θ1 ch arr) (hS : MbS Θ1 m v) (hD : MbD Θ1 m v) : CSt Θ0 Θ1 a tl ch arr s b FT F frL toL n1 n2 tx nm fs pp fds := sorry
end CST

/-! 76.c0.lean.txt -/
/-! contents: fields of what is being made -/
set_option maxRecDepth 100000
theorem nd_one (x : Int) : [x].Nodup := List.nodup_cons.mpr ⟨List.not_mem_nil, List.nodup_nil⟩
theorem gt_snoc {l : List Int} {x : Int} : gt (l ++ [x]) (l.length : Int) = x := sorry
theorem gt_app1 {l : List Int} {x k : Int} (h : 0 ≤ k) (h1 : k < len l) : gt (l ++ [x]) k = gt l k := by rw [gt_app h, if_pos h1]
theorem nd_gt {l : List Int} (h : l.Nodup) {i j : Nat} (hi : i < l.length) (hj : j < l.length) (hn : i ≠ j) : gt l (i : Int) ≠ gt l (j : Int) := sorry
abbrev fd0 : FdV := ([], 0, 0, false)
section CSF
variable {ω : AO} {d G g : Nat} {Θ0 Θ Θ1 : Th} {a tl ch arr s b x m : Int} {FT F : List Int} {frL toL : List Mb} {n1 n2 : Nat} {tx nm : List (List Int)} {fs pp : List Int} {fds : List FdV} {ex : Int → Prop}
theorem CSt.fldZ (h : CSt Θ0 Θ a tl ch arr s b FT F frL toL n1 n2 tx nm fs pp fds) {i : Nat} (hi : i < fds.length) : FdZ Θ (gt fs (i : Int)) (gt pp (i : Int)) s b 300 (fds.getD i fd0) := sorry
theorem CSt.pset {i : Nat} (h : CSt Θ0 Θ a tl ch arr s b FT F frL toL n1 n2 tx nm fs pp fds) (hi : i ≠ 1 ∧ i ≠ 2 ∧ i ≠ 3 ∧ i ≠ 4 ∧ i ≠ 6) (e : Θ1 = pf Θ a (i : Int) x) : CSt Θ0 Θ1 a tl ch arr s b FT (F.set i x) frL toL n1 n2 tx nm fs pp fds ∧ GrX (· = a) Θ Θ1 := sorry
theorem CSt.addF {i : Nat} {T : FdV} (h : CSt Θ0 Θ a tl ch arr s b FT F frL toL n1 n2 tx nm fs pp fds) (hi : i < fds.length) (g : GrX (exF (gt fs (i : Int)) (gt pp (i : Int)) s b) Θ Θ1) (hT : FdZ Θ1 (gt fs (i : Int)) (gt pp (i : Int)) s b 300 T) : CSt Θ0 Θ1 a tl ch arr s b FT F frL toL n1 n2 tx nm fs pp (fds.set i T) := sorry
/-- one more field -/
theorem CSt.newF {f p k : Int} (h : CSt Θ0 Θ a tl ch arr s b FT F frL toL n1 n2 tx nm fs pp fds) (hf : kd Θ f = 0) (hp : kd Θ p = 0) (g : Gr Θ Θ1) (hF : FdP Θ1 f p s 300 fd0) {Θ2 : Th} (e : Θ2 = uq Θ1 (gt F 6) (3, vv Θ1 (gt F 6) ++ [f], adC (cp Θ1 (gt F 6)) (len (vv Θ1 (gt F 6))), k)) : CSt Θ0 Θ2 a tl ch arr s b FT F frL toL n1 n2 tx nm (fs ++ [f]) (pp ++ [p]) (fds ++ [fd0]) := sorry
end CSF

/-! 76.c1.lean.txt -/
/-! fields: how big they get -/
set_option maxRecDepth 100000
theorem smT_30 {l : List Int} {x y : Int} (h0 : 0 ≤ x) : len (smT l x y) ≤ 30 := sorry
theorem pcF_30 {s : List Int} {p : Int} (h : len s ≤ 30) : len (pcF s p).1 ≤ 30 ∧ len (pcF s p).2.1 ≤ 30 := sorry
def pOk (lo hi : Int) (p : Pc) : Prop := len p.1 ≤ 30 ∧ len p.2.1 ≤ 30 ∧ lo ≤ p.2.2.1 ∧ p.2.2.1 < hi
theorem rwG_pp {l : List Int} : ∀ (N : Nat) (b pl : Int) (ad : Bool), (len l - b).toNat = N → 0 ≤ b → 0 < (rwG l b pl ad).1.length ∧ ∀ p, p ∈ (rwG l b pl ad).1 → pOk pl (pl + ((rwG l b pl ad).1.length : Int)) p := sorry
theorem mem_ins1 {x p : Pc} {l : List Pc} (h : p ∈ ins1 x l) : p = x ∨ p ∈ l := sorry
theorem roP_pp {l : List Int} {k pl : Int} (k0 : 0 ≤ k) : ∀ p, p ∈ roP l k pl → pOk pl (pl + roN l k pl) p := sorry
def fOk (v : Fs) : Prop := 0 ≤ v.2.1 ∧ ∀ p, p ∈ v.1 → pOk 0 v.2.1 p
theorem cuG_ok {l : List Int} {most e : Int} (he : rwX l e) (h2 : e ≤ len l) : ∀ (N : Nat) (k : Int) (v : Fs), (e - k).toNat = N → 0 ≤ k → k ≤ e → fOk v → fOk (cuG l most e k v) := sorry
theorem fdC_ok {l : List Int} {most : Int} : ∀ (N : Nat) (k : Int) (s : Bool) (w : Fs), (len l - k).toNat = N → 0 ≤ k → fOk w → fOk ((lnZ l (lnG l k) s).foldl (fdC l most) w) ∧ (((lnZ l (lnG l k) s).foldl (fdC l most) w).1.length : Int) ≤ w.1.length + 2 * max 0 (len l - k) ∧ ((lnZ l (lnG l k) s).foldl (fdC l most) w).2.1 ≤ w.2.1 + max 0 (len l - k) ∧ w.2.1 ≤ ((lnZ l (lnG l k) s).foldl (fdC l most) w).2.1 ∧ w.2.2 ≤ ((lnZ l (lnG l k) s).foldl (fdC l most) w).2.2 ∧ ((lnZ l (lnG l k) s).foldl (fdC l most) w).2.2 ≤ w.2.2 + max 0 (len l - k) := sorry
/-- a field that took texts of n characters, c of them -/
def FOK (v : FdV) (n c : Int) : Prop := (v.1.length : Int) ≤ 2 * n ∧ (0 ≤ v.2.1 ∧ v.2.1 ≤ n + 10 * c) ∧ (0 ≤ v.2.2.1 ∧ v.2.2.1 ≤ n) ∧ ∀ p, p ∈ v.1 → pOk 0 v.2.1 p
theorem FOK0 : FOK fd0 0 0 := sorry
theorem rwX_end {l : List Int} : rwX l (len l) := sorry
theorem FOK.add {v : FdV} {n c most : Int} {l : List Int} {pl : Bool} (h : FOK v n c) : FOK (fdA l most pl v) (n + len l) (c + 1) := sorry
/-- texts come to a field -/
def adF (pl : Bool) (v : FdV) (ts : List (List Int)) : FdV := ts.foldl (fun v t => fdA t 300 pl v) v
def sumL : List (List Int) → Int
  | [] => 0
  | t :: r => len t + sumL r
theorem sumL_nn : ∀ ts : List (List Int), 0 ≤ sumL ts := sorry
theorem adF_ok {pl : Bool} : ∀ (ts : List (List Int)) (v : FdV) (n c : Int), FOK v n c → FOK (adF pl v ts) (n + sumL ts) (c + (ts.length : Int)) := sorry
/-! 76.c2.lean.txt -/
/-! contents: the names of what hangs on, words, base -/
set_option maxRecDepth 100000
def ntX (E : List Ev) : List Int → List (List Int)
  | [] => []
  | i :: r => if enNm (evH (en E i)) = [] then ntX E r else tfF (utf8 (enNm (evH (en E i)))) :: ntX E r
def ntG (E : List Ev) : List Int → Int
  | [] => 0
  | i :: r => (if enNm (evH (en E i)) = [] then 0 else 8 * len (enNm (evH (en E i))) + 120 + (94 * len (tfF (utf8 (enNm (evH (en E i))))) + 31)) + ntG E r
theorem ntG_nn (E : List Ev) : ∀ l, 0 ≤ ntG E l := sorry
def VSo (fds : List FdV) : List (List Pc) := fds.map (·.1)
def endC (fds : List FdV) (sj : List Int) : Int := 6 + vsS (VSo fds) 5 0 + wbG (woF (VSo fds)) + 2 * cpZ (woF (VSo fds)).1.length + (8 * len sj + 60)
theorem VSo_at {fds : List FdV} {f : Nat} : (VSo fds).getD f [] = (fds.getD f fd0).1 := sorry
theorem endC_nn (fds : List FdV) (sj : List Int) : 60 ≤ endC fds sj := sorry
theorem smS_ln {l : List Int} : len (smS l) = len l := by unfold smS len; rw [List.length_map]
theorem gt_set2 {l : List Int} {i : Nat} {x : Int} (h : i < l.length) : gt (l.set i x) (i : Int) = x := sorry
theorem cpZ_fdA {l : List Int} {pl : Bool} {v : FdV} : cpZ v.1.length ≤ cpZ (fdA l 300 pl v).1.length := sorry
theorem cpZ_adF {pl : Bool} : ∀ (ts : List (List Int)) (v : FdV), cpZ v.1.length ≤ cpZ (adF pl v ts).1.length := sorry
/-- what holds of the parts' names -/
def nmOk (E : List Ev) (hg : List Int) : Prop := ∀ i, i ∈ hg → 0 ≤ i ∧ i < (E.length : Int) ∧ byt (enNm (evH (en E i))) ∧ len (enNm (evH (en E i))) ≤ 1890
theorem FdO.k50 {Θ : Th} {a p s b most c : Int} {v : FdV} (h : FdO Θ a p s b most v c) : kd Θ a = 50 := h.rd.1
theorem FdO.k3 {Θ : Th} {a p s b most c : Int} {v : FdV} (h : FdO Θ a p s b most v c) : kd Θ p = 3 := h.rd.2.2.2.2.2.2.2.2.1
section CI4
variable {ω : AO} {d G g : Nat} {Θ0 Θ Θ1 : Th} {a tl ch arr s b x m it s2 p : Int} {FT F : List Int} {frL toL : List Mb} {n1 n2 : Nat} {tx nm : List (List Int)} {fs pp : List Int} {fds : List FdV} {rs prs sh hg : List Int} {E : List Ev} {ls : List (List Int)} {sj : List Int}
theorem CSt.rdA (h : CSt Θ0 Θ a tl ch arr s b FT F frL toL n1 n2 tx nm fs pp fds) : xo Θ a = (32, F, 0, 0) ∧ ¬ fz Θ a ∧ xo Θ tl = (16, FT, 0, 0) ∧ gt FT 0 = ch ∧ gt FT 1 = s ∧ CHS Θ ch arr := sorry
theorem CSt.rdF (h : CSt Θ0 Θ a tl ch arr s b FT F frL toL n1 n2 tx nm fs pp fds) : (∃ e, xo Θ (gt F 6) = (3, fs, cpZ fs.length, e)) ∧ fs.length = fds.length := ⟨h.2.2.2.2.2.1.1, h.2.2.2.2.2.1.2.2.2.1⟩
theorem CSt.fvq (h : CSt Θ0 Θ a tl ch arr s b FT F frL toL n1 n2 tx nm fs pp fds) (h5 : fds.length = 5) : FV Θ (gt F 6) fs (VSo fds) := sorry
theorem u_ci451 {Q : Th → Prop} {Θb : Th} {c2 e2 : Int} (hd : 20 ≤ d) (hE : EnL Θb rs prs E) (hs2 : Fx Θb s2 (3, hg.map (gt rs), c2, e2)) (hn : nmOk E hg) (hF12 : F.length = 12) (h5 : fds.length = 5) (hsl : len sj ≤ 1890) (hsc : ∀ x, x ∈ sj → 0 ≤ x ∧ x < 65536) (hO : ∀ i : Nat, i < 4 → ∃ n c, FOK (fds.getD i fd0) n c ∧ n ≤ 4000 ∧ c ≤ 4000) :
    ∀ (N : Nat) (k u : Int) (g : Nat) (Θ : Th) (v4 : FdV) (n c : Int), (len hg - k).toNat = N → 0 ≤ k → k ≤ len hg → Le Θb Θ → CSt Θ0 Θ a tl ch arr s b FT F frL toL n1 n2 tx nm fs pp (fds.set 4 v4) → TxO Θ (gt F 7) sj → xo Θ it = (14, [k, u, e2, s2], 0, 0) → ¬ fz Θ it → kd Θ0 it = 0 → FOK v4 n c → n + sumL (ntX E (hg.drop k.toNat)) ≤ 4000 → c + (len hg - k) ≤ 4000 →
      (g : Int) + ntG E (hg.drop k.toNat) + (cpZ (adF false v4 (ntX E (hg.drop k.toNat))).1.length - cpZ v4.1.length) + endC (fds.set 4 (adF false v4 (ntX E (hg.drop k.toNat)))) sj ≤ (G : Int) →
      (∀ Θ' F' wd bs, Le Θ Θ' → CSt Θ0 Θ' a tl ch arr s b FT F' frL toL n1 n2 tx nm fs pp (fds.set 4 (adF false v4 (ntX E (hg.drop k.toNat)))) → F' = ((F.set 8 wd).set 9 bs).set 10 (if baF (smS sj) = trmL (smS sj) then 0 else 1) → WdO Θ' wd (woF (VSo (fds.set 4 (adF false v4 (ntX E (hg.drop k.toNat)))))) → Str Θ' bs (baF (smS sj)) → Q Θ') → W2_X19_init_451 ω d G a tl it g Θ Q := sorry
end CI4

/-! 76.c3.lean.txt -/
/-! contents: texts come to their field, names -/
set_option maxRecDepth 100000
def txG : List (List Int) → Int
  | [] => 0
  | t :: r => 94 * len t + 31 + txG r
theorem txG_nn : ∀ l, 0 ≤ txG l := sorry
def txOk (ts : List (List Int)) : Prop := ∀ t, t ∈ ts → len t ≤ 1900 ∧ ∀ x, x ∈ t → 0 ≤ x ∧ x < 65536
theorem getD_set {α : Type} {l : List α} {i : Nat} {x d : α} (h : i < l.length) : (l.set i x).getD i d = x := sorry
section CI3
variable {ω : AO} {d G g : Nat} {Θ0 Θ Θ1 : Th} {a tl ch arr s b x m it s2 p : Int} {FT F : List Int} {frL toL : List Mb} {n1 n2 : Nat} {tx nm : List (List Int)} {fs pp : List Int} {fds : List FdV} {rs prs sh hg : List Int} {E : List Ev} {ls : List (List Int)} {sj : List Int}
theorem CSt.ksb (h : CSt Θ0 Θ a tl ch arr s b FT F frL toL n1 n2 tx nm fs pp fds) : kd Θ s = 18 ∧ kd Θ b = 103 := sorry
theorem CSt.nex (h : CSt Θ0 Θ a tl ch arr s b FT F frL toL n1 n2 tx nm fs pp fds) {i : Nat} (hi : i < fds.length) {z : Int} (hz : (kd Θ z = 3 ∧ z ∉ pp) ∨ kd Θ z = 14) : ¬ exF (gt fs (i : Int)) (gt pp (i : Int)) s b z := sorry
theorem CSt.npp (h : CSt Θ0 Θ a tl ch arr s b FT F frL toL n1 n2 tx nm fs pp fds) : (kd Θ (gt F 1) = 3 ∧ gt F 1 ∉ pp) ∧ (kd Θ (gt F 2) = 3 ∧ gt F 2 ∉ pp) ∧ (kd Θ (gt F 3) = 3 ∧ gt F 3 ∉ pp) := sorry
/-- an iterator goes on -/
theorem CSt.itn (h : CSt Θ0 Θ a tl ch arr s b FT F frL toL n1 n2 tx nm fs pp fds) (kit : kd Θ it = 14) (hz : kd Θ0 it = 0) (g : GrX (· = it) Θ Θ1) : CSt Θ0 Θ1 a tl ch arr s b FT F frL toL n1 n2 tx nm fs pp fds := sorry
/-- an iterator is made -/
theorem u_cit {Q : Int → Th → Prop} {l : List Int} {c e : Int} (hd : 2 ≤ d) (h : CSt Θ0 Θ a tl ch arr s b FT F frL toL n1 n2 tx nm fs pp fds) (hl : xo Θ x = (3, l, c, e)) (hG : 1 ≤ G) (hQ : ∀ r u Θ', Gr Θ Θ' → CSt Θ0 Θ' a tl ch arr s b FT F frL toL n1 n2 tx nm fs pp fds → xo Θ' r = (14, [0, u, e, x], 0, 0) → ¬ fz Θ' r → kd Θ0 r = 0 → Q r Θ') : w2_J7_iterator ω d G x Θ Q := sorry
theorem u_ci400 {Q : Th → Prop} {tr : List Int} {ct et c2 e2 : Int} {Θb : Th} (hd : 20 ≤ d) (hpp : ∃ li el s1 cl, Fx Θb p (33, [el, s1, s2, li], 0, 0) ∧ Fx Θb s2 (3, cl, c2, e2)) (hF0 : gt F 0 = p) (h5 : fds.length = 5) (htx : txOk tx) :
    ∀ (N : Nat) (k u : Int) (g : Nat) (Θ : Th) (v3 : FdV) (n c : Int), (len tr - k).toNat = N → 0 ≤ k → k ≤ len tr → Le Θb Θ → CSt Θ0 Θ a tl ch arr s b FT F frL toL n1 n2 tx nm fs pp (fds.set 3 v3) → xo Θ (gt F 3) = (3, tr, ct, et) → all2 (TxO Θ) tr tx → xo Θ it = (14, [k, u, et, gt F 3], 0, 0) → ¬ fz Θ it → kd Θ0 it = 0 → FOK v3 n c → n + sumL (tx.drop k.toNat) ≤ 4000 → c + (len tr - k) ≤ 4000 →
      (g : Int) + txG (tx.drop k.toNat) + (cpZ (adF true v3 (tx.drop k.toNat)).1.length - cpZ v3.1.length) + 1 ≤ (G : Int) →
      (∀ Θ' it' u' (g' : Nat), Le Θ Θ' → CSt Θ0 Θ' a tl ch arr s b FT F frL toL n1 n2 tx nm fs pp (fds.set 3 (adF true v3 (tx.drop k.toNat))) → xo Θ' it' = (14, [0, u', e2, s2], 0, 0) → ¬ fz Θ' it' → kd Θ0 it' = 0 → (g' : Int) ≤ g + txG (tx.drop k.toNat) + (cpZ (adF true v3 (tx.drop k.toNat)).1.length - cpZ v3.1.length) + 1 → W2_X19_init_451 ω d G a tl it' g' Θ' Q) → W2_X19_init_400 ω d G a tl it g Θ Q := sorry
end CI3

/-! 76.c4.lean.txt -/
/-! contents: names, the subject -/
set_option maxRecDepth 100000
def nmL (E : List Ev) (l : List Int) : List (List Int) := l.map (fun i => tfF (utf8 (enNm (evH (en E i)))))
def nmG (E : List Ev) : List Int → Int
  | [] => 0
  | i :: r => 8 * len (enNm (evH (en E i))) + 120 + nmG E r
theorem nmG_nn (E : List Ev) : ∀ l, 0 ≤ nmG E l := sorry
section CI2
variable {ω : AO} {d G g : Nat} {Θ0 Θ Θ1 : Th} {a tl ch arr s b x m it s2 p : Int} {FT F : List Int} {frL toL : List Mb} {n1 n2 : Nat} {tx : List (List Int)} {fs pp : List Int} {fds : List FdV} {rs prs sh hg : List Int} {E : List Ev} {ls : List (List Int)} {sj : List Int}
theorem u_ci333 {Q : Th → Prop} {c2 e2 : Int} {Θb : Th} (hd : 20 ≤ d) (hE : EnL Θb rs prs E) (hs2 : Fx Θb s2 (3, hg.map (gt rs), c2, e2)) (hsj : TxO Θb (gt F 7) sj) (hn : nmOk E hg) (h5 : fds.length = 5) (hf0 : fds.getD 2 fd0 = fd0) (hsl : len sj ≤ 1890) (hsc : ∀ x, x ∈ sj → 0 ≤ x ∧ x < 65536) :
    ∀ (N : Nat) (k u : Int) (g : Nat) (Θ : Th) (nm : List (List Int)), (len hg - k).toNat = N → 0 ≤ k → k ≤ len hg → Le Θb Θ → CSt Θ0 Θ a tl ch arr s b FT F frL toL n1 n2 tx nm fs pp fds → xo Θ it = (14, [k, u, e2, s2], 0, 0) → ¬ fz Θ it → kd Θ0 it = 0 → (nm.length : Int) + (len hg - k) ≤ 100000 →
      (g : Int) + nmG E (hg.drop k.toNat) + (cpZ (nm.length + (hg.drop k.toNat).length) - cpZ nm.length) + (94 * len sj + 31 + cpZ (fdA sj 300 false fd0).1.length) + 1 ≤ (G : Int) →
      (∀ Θ' it' u' tr ct et (g' : Nat), Le Θ Θ' → CSt Θ0 Θ' a tl ch arr s b FT F frL toL n1 n2 tx (nm ++ nmL E (hg.drop k.toNat)) fs pp (fds.set 2 (fdA sj 300 false fd0)) → xo Θ' (gt F 3) = (3, tr, ct, et) → all2 (TxO Θ') tr tx → xo Θ' it' = (14, [0, u', et, gt F 3], 0, 0) → ¬ fz Θ' it' → kd Θ0 it' = 0 → (g' : Int) ≤ g + nmG E (hg.drop k.toNat) + (cpZ (nm.length + (hg.drop k.toNat).length) - cpZ nm.length) + (94 * len sj + 31 + cpZ (fdA sj 300 false fd0).1.length) + 1 → W2_X19_init_400 ω d G a tl it' g' Θ' Q) → W2_X19_init_333 ω d G a tl it g Θ Q := sorry
end CI2

/-! 76.c5.lean.txt -/
/-! contents: mailboxes -/
set_option maxRecDepth 100000
set_option maxHeartbeats 4000000
theorem srF_len {v : Mb} (hb : mbB v) : len (srF v) ≤ mbL v + 3 := sorry
def srT (L : List Mb) : List (List Int) := L.map (fun v => tfF (srF v))
def mbG : List Mb → Int
  | [] => 0
  | v :: r => (70 * mbL v + 430) + (94 * len (tfF (srF v)) + 31) + mbG r
theorem mbG_nn : ∀ l, 0 ≤ mbG l := sorry
def mbOk (L : List Mb) : Prop := ∀ v, v ∈ L → mbB v ∧ mbL v ≤ 1890
section CI1
variable {ω : AO} {d G g : Nat} {Θ0 Θ Θ1 : Th} {a tl ch arr s b x m it s2 p : Int} {FT F : List Int} {frL toL : List Mb} {n1 n2 : Nat} {tx nm : List (List Int)} {fs pp : List Int} {fds : List FdV} {rs prs sh hg : List Int} {E : List Ev} {ls : List (List Int)} {sj : List Int} {rf' : List Int} {cf ef : Int} {v : Mb}
theorem LMd.bump (h : LMd Θ0 Θ x frL n1) (hx : xo Θ x = (3, rf', cf, ef)) (hn : n1 < rf'.length) (hv : frL[n1]? = some v) (hD : MbD Θ (gt rf' (n1 : Int)) v) : LMd Θ0 Θ x frL (n1 + 1) := sorry
theorem u_ci226 {Q : Th → Prop} (hd : 20 ≤ d) (h5 : fds.length = 5) (hmb : mbOk frL) (hln : rf'.length = frL.length) :
    ∀ (N : Nat) (k : Nat) (u : Int) (g : Nat) (Θ : Th) (v0 : FdV) (n c : Int), frL.length - k = N → k ≤ frL.length → CSt Θ0 Θ a tl ch arr s b FT F frL toL k n2 tx nm fs pp (fds.set 0 v0) → xo Θ (gt F 1) = (3, rf', cf, ef) → xo Θ it = (14, [(k : Int), u, ef, gt F 1], 0, 0) → ¬ fz Θ it → kd Θ0 it = 0 → FOK v0 n c → n + sumL (srT (frL.drop k)) ≤ 4000 → c + ((frL.length : Int) - k) ≤ 4000 →
      (g : Int) + mbG (frL.drop k) + (cpZ (adF false v0 (srT (frL.drop k))).1.length - cpZ v0.1.length) + 1 ≤ (G : Int) →
      (∀ Θ' it' u' rt ct et (g' : Nat), Le Θ Θ' → CSt Θ0 Θ' a tl ch arr s b FT F frL toL frL.length n2 tx nm fs pp (fds.set 0 (adF false v0 (srT (frL.drop k)))) → xo Θ' (gt F 2) = (3, rt, ct, et) → rt.length = toL.length → xo Θ' it' = (14, [0, u', et, gt F 2], 0, 0) → ¬ fz Θ' it' → kd Θ0 it' = 0 → (g' : Int) ≤ g + mbG (frL.drop k) + (cpZ (adF false v0 (srT (frL.drop k))).1.length - cpZ v0.1.length) + 1 → W2_X19_init_278 ω d G a tl it' g' Θ' Q) → W2_X19_init_226 ω d G a tl it g Θ Q := sorry
end CI1

/-! 76.c6.lean.txt -/
/-! contents: the mailboxes the content is for (printed by mk_76c6.py) -/
set_option maxRecDepth 100000
set_option maxHeartbeats 4000000
section CI6
variable {ω : AO} {d G g : Nat} {Θ0 Θ Θ1 : Th} {a tl ch arr s b x m it s2 p : Int} {FT F : List Int} {frL toL : List Mb} {n1 n2 : Nat} {tx nm : List (List Int)} {fs pp : List Int} {fds : List FdV} {rs prs sh hg : List Int} {E : List Ev} {ls : List (List Int)} {sj : List Int} {rf' : List Int} {cf ef : Int} {v : Mb}
theorem u_ci278 {Q : Th → Prop} {c2 e2 : Int} {Θb : Th} {gl : List Int} (hd : 20 ≤ d) (hpp : ∃ li el s1, Fx Θb p (33, [el, s1, s2, li], 0, 0) ∧ Fx Θb s2 (3, gl, c2, e2)) (hF0 : gt F 0 = p) (h5 : fds.length = 5) (hmb : mbOk toL) (hln : rf'.length = toL.length) :
    ∀ (N : Nat) (k : Nat) (u : Int) (g : Nat) (Θ : Th) (v0 : FdV) (n c : Int), toL.length - k = N → k ≤ toL.length → Le Θb Θ → CSt Θ0 Θ a tl ch arr s b FT F frL toL n1 k tx nm fs pp (fds.set 1 v0) → xo Θ (gt F 2) = (3, rf', cf, ef) → xo Θ it = (14, [(k : Int), u, ef, gt F 2], 0, 0) → ¬ fz Θ it → kd Θ0 it = 0 → FOK v0 n c → n + sumL (srT (toL.drop k)) ≤ 4000 → c + ((toL.length : Int) - k) ≤ 4000 →
      (g : Int) + mbG (toL.drop k) + (cpZ (adF false v0 (srT (toL.drop k))).1.length - cpZ v0.1.length) + 1 ≤ (G : Int) →
      (∀ Θ' it' u' (g' : Nat), Le Θ Θ' → CSt Θ0 Θ' a tl ch arr s b FT F frL toL n1 toL.length tx nm fs pp (fds.set 1 (adF false v0 (srT (toL.drop k)))) → xo Θ' it' = (14, [0, u', e2, s2], 0, 0) → ¬ fz Θ' it' → kd Θ0 it' = 0 → (g' : Int) ≤ g + mbG (toL.drop k) + (cpZ (adF false v0 (srT (toL.drop k))).1.length - cpZ v0.1.length) + 1 → W2_X19_init_333 ω d G a tl it' g' Θ' Q) → W2_X19_init_278 ω d G a tl it g Θ Q := sorry
end CI6

/-! 76.c7.lean.txt -/
/-! contents: texts, fields -/
set_option maxRecDepth 100000
section X45I
variable {ω : AO} {d G : Nat} {Θ Θ1 : Th} {a st : Int}
theorem u_X45_init {Q : Th → Prop} (hd : 5 ≤ d) (h : xo Θ a = (50, [-1, -1, 0, 0, 0, 0], 0, 0)) (hf : ¬ fz Θ a) (hs : -1 ≤ st) (hG : 1 ≤ G) (hQ : ∀ Θ' q, GrX (· = a) Θ Θ' → FdP Θ' a q st 300 fd0 → kd Θ q = 0 → q ≠ a → Q Θ') : w2_X45_init ω d G a st 300 Θ Q := sorry
end X45I
/-- the text of an entity -/
def evX (ls : List (List Int)) (v : Ev) : List Int := tcF (vaP (vlF (evH v) CTY)) (enCd (evH v)) (evTy v) (bodF ls (evB v) (evT v))
def evC (ls : List (List Int)) (v : Ev) : Int := 110 * len (bodF ls (evB v) (evT v)) + 103 * nzF (bodF ls (evB v) (evT v)) 0 + 800 + 5 * len (vlF (vaP (vlF (evH v) CTY)) CHN)
def tnL (ls : List (List Int)) (E : List Ev) (l : List Int) : List (List Int) := l.map (fun i => evX ls (en E i))
def tnG (ls : List (List Int)) (E : List Ev) : List Int → Int
  | [] => 0
  | i :: r => evC ls (en E i) + tnG ls E r
theorem evC_nn {ls : List (List Int)} {v : Ev} : 800 ≤ evC ls v := sorry
theorem tnG_nn (ls : List (List Int)) (E : List Ev) : ∀ l, 0 ≤ tnG ls E l := sorry
def evOk (ls : List (List Int)) (v : Ev) : Prop := 0 ≤ evB v ∧ evB v ≤ evT v ∧ evT v ≤ (ls.length : Int) ∧ szF ls (evT v) ≤ 90000 ∧ evT v ≤ 1000000 ∧ (vaP (vlF (evH v) CTY)).length ≤ 100000 ∧ (∀ q, q ∈ vaP (vlF (evH v) CTY) → byt q.2 ∧ len q.2 ≤ 2000) ∧ wide (enCd (evH v)) = 0 ∧ len (bodF ls (evB v) (evT v)) + nzF (bodF ls (evB v) (evT v)) 0 ≤ 1890
def tnOk (ls : List (List Int)) (E : List Ev) (sh : List Int) : Prop := ∀ i, i ∈ sh → 0 ≤ i ∧ i < (E.length : Int) ∧ evOk ls (en E i)
section CI7
variable {ω : AO} {d G g : Nat} {Θ0 Θ Θ1 : Th} {a tl ch arr s b x m it s2 p : Int} {FT F : List Int} {frL toL : List Mb} {n1 n2 : Nat} {tx nm : List (List Int)} {fs pp : List Int} {fds : List FdV} {rs prs sh hg : List Int} {E : List Ev} {ls : List (List Int)} {sj : List Int}
theorem u_ci185 {Q : Th → Prop} (hd : 20 ≤ d) :
    ∀ (N k : Nat) (g : Nat) (Θ : Th) (fs pp : List Int), 5 - k = N → k ≤ 5 → CSt Θ0 Θ a tl ch arr s b FT F frL toL n1 n2 tx nm fs pp (List.replicate k fd0) →
      (g : Int) + 3 * (5 - k) + (cpZ 5 - cpZ k) + 1 ≤ (G : Int) →
      (∀ Θ' fs' pp' it u rf' cf ef (g' : Nat), Le Θ Θ' → CSt Θ0 Θ' a tl ch arr s b FT F frL toL n1 n2 tx nm fs' pp' (List.replicate 5 fd0) → xo Θ' (gt F 1) = (3, rf', cf, ef) → rf'.length = frL.length → xo Θ' it = (14, [0, u, ef, gt F 1], 0, 0) → ¬ fz Θ' it → kd Θ0 it = 0 → (g' : Int) ≤ g + 3 * (5 - k) + (cpZ 5 - cpZ k) + 1 → W2_X19_init_226 ω d G a tl it g' Θ' Q) → W2_X19_init_185 ω d G a tl (k : Int) g Θ Q := sorry
theorem u_ci145 {Q : Th → Prop} {el s1 li c1 e1 : Int} {Θb : Th} (hd : 22 ≤ d) (hE : EnL Θb rs prs E) (hp : Fx Θb p (33, [el, s1, s2, li], 0, 0)) (hs1 : Fx Θb s1 (3, sh.map (gt rs), c1, e1)) (hli : LiO Θb li ls) (hlb : ∀ x, x ∈ ls → byt x) (hF0 : gt F 0 = p) (hn : tnOk ls E sh) :
    ∀ (N : Nat) (k u : Int) (g : Nat) (Θ : Th) (tx : List (List Int)), (len sh - k).toNat = N → 0 ≤ k → k ≤ len sh → Le Θb Θ → CSt Θ0 Θ a tl ch arr s b FT F frL toL n1 n2 tx nm fs pp fds → xo Θ it = (14, [k, u, e1, s1], 0, 0) → ¬ fz Θ it → kd Θ0 it = 0 → (tx.length : Int) + (len sh - k) ≤ 100000 →
      (g : Int) + tnG ls E (sh.drop k.toNat) + (cpZ (tx.length + (sh.drop k.toNat).length) - cpZ tx.length) ≤ (G : Int) →
      (∀ Θ' (g' : Nat), Le Θ Θ' → CSt Θ0 Θ' a tl ch arr s b FT F frL toL n1 n2 (tx ++ tnL ls E (sh.drop k.toNat)) nm fs pp fds → (g' : Int) ≤ g + tnG ls E (sh.drop k.toNat) + (cpZ (tx.length + (sh.drop k.toNat).length) - cpZ tx.length) → W2_X19_init_185 ω d G a tl 0 g' Θ' Q) → W2_X19_init_145 ω d G a tl it g Θ Q := sorry
theorem u_ci134 {Q : Th → Prop} {el s1 li c1 e1 : Int} {Θb : Th} (hd : 22 ≤ d) (hE : EnL Θb rs prs E) (hp : Fx Θb p (33, [el, s1, s2, li], 0, 0)) (hs1 : Fx Θb s1 (3, sh.map (gt rs), c1, e1)) (hli : LiO Θb li ls) (hlb : ∀ x, x ∈ ls → byt x) (hF0 : gt F 0 = p) (hn : tnOk ls E sh) (LL : Le Θb Θ)
    (hS : CSt Θ0 Θ a tl ch arr s b FT F frL toL n1 n2 [] nm fs pp fds) (hnl : len sh ≤ 100000) (hG : (g : Int) + tnG ls E sh + cpZ sh.length + 1 ≤ (G : Int))
    (hQ : ∀ Θ' (g' : Nat), Le Θ Θ' → CSt Θ0 Θ' a tl ch arr s b FT F frL toL n1 n2 (tnL ls E sh) nm fs pp fds → (g' : Int) ≤ g + tnG ls E sh + cpZ sh.length + 1 → W2_X19_init_185 ω d G a tl 0 g' Θ' Q) : W2_X19_init_134 ω d G a tl g Θ Q := sorry
end CI7

/-! 76.c8.lean.txt -/
/-! contents: the subject, the date, the head of what is made -/
set_option maxRecDepth 100000
def SUBN : List Int := [115, 117, 98, 106, 101, 99, 116]
def DATN : List Int := [100, 97, 116, 101]
def FRMN : List Int := [102, 114, 111, 109]
def TON : List Int := [116, 111]
def CCN : List Int := [99, 99]
abbrev Hd : Type := List (List Int × List Int)
def sjF (H : Hd) : List Int := tfF (enR (vlF H SUBN) 0 [] false)
def dtF (H : Hd) : Int := drF (woC (cuA (vlF H DATN) 0))
def ci83G (H : Hd) : Int := 56 * len (vlF H SUBN) + 43 * len (vlF H DATN) + 12 * (len (vlF H REFS) + len (vlF H INRT)) + 600
def ci83Ok (H : Hd) : Prop := len (vlF H SUBN) ≤ 2000 ∧ len (vlF H DATN) ≤ 90000 ∧ len (vlF H REFS) + len (vlF H INRT) ≤ 100000
theorem okW_cu {l : List Int} (h : byt l) : okW (len l) (woC (cuA l 0)) := sorry
section CI8
variable {ω : AO} {d G g : Nat} {Θ0 Θ Θ1 Θ2 : Th} {a tl ch arr s b x m it s2 p v k : Int} {FT F : List Int} {frL toL : List Mb} {n1 n2 : Nat} {tx nm : List (List Int)} {fs pp : List Int} {fds : List FdV} {rs prs sh hg : List Int} {E : List Ev} {ls : List (List Int)} {sj : List Int}
theorem u_ci83 {Q : Th → Prop} {H : Hd} {Θb : Th} (hd : 32 ≤ d) (hp : PtO Θb p rs prs ls E sh hg) (hr0 : 0 < len rs) (hok : hdOk (evH (en E 0))) (hH : evH (en E 0) = H) (hc : ci83Ok H) (hF0 : gt F 0 = p) (LL : Le Θb Θ)
    (hS : CSt Θ0 Θ a tl ch arr s b FT F frL toL n1 n2 tx nm fs pp fds) (hG : (g : Int) + ci83G H ≤ (G : Int))
    (hQ : ∀ Θ' tS rf (g' : Nat), Le Θ Θ' → CSt Θ0 Θ' a tl ch arr s b FT (((F.set 7 tS).set 11 (dtF H)).set 5 rf) frL toL n1 n2 tx nm fs pp fds → TxO Θ' tS (sjF H) → (∃ rs c e, Fx Θ' rf (3, rs, c, e) ∧ all2 (Str Θ') rs (reF (vlF H REFS) (vlF H INRT))) → (g' : Int) ≤ g + ci83G H → W2_X19_init_134 ω d G a tl g' Θ' Q) : W2_X19_init_83 ω d G a tl g Θ Q := sorry
/-- a new list -/
theorem CX.newL (h : CX Θ0 Θ a tl ch arr s b FT F) (u : nt Θ ≤ v ∧ 0 ≤ v) (B : Bl Θ) (t : Θ1 = nu Θ v (203, [], 0, 0)) (t2 : Θ2 = uq Θ1 v (3, [], 0, k)) : Gr Θ Θ2 ∧ CX Θ0 Θ2 a tl ch arr s b FT F ∧ xo Θ2 v = (3, [], 0, k) ∧ ¬ fz Θ2 v ∧ kd Θ v = 0 ∧ kd Θ0 v = 0 := sorry
end CI8

/-! 76.c9.lean.txt -/
/-! contents: the head of what is made -/
set_option maxRecDepth 100000
theorem alC_up {c n k : Int} (h : c = 0 ∨ 10 ≤ c) (hn : 0 ≤ n) (h1 : n ≤ c) (hk : 0 ≤ k) : alC c n k ≤ c + n + k + 10 ∧ c ≤ alC c n k := sorry
theorem LTx.mk {Θ0 Θ : Th} {v k : Int} (h : xo Θ v = (3, [], 0, k)) (hf : ¬ fz Θ v) (hz : kd Θ0 v = 0) : LTx Θ0 Θ v [] := ⟨[], k, h, hf, trivial, hz⟩
theorem LFs.mk {Θ0 Θ : Th} {v k s : Int} (h : xo Θ v = (3, [], 0, k)) (hf : ¬ fz Θ v) (hz : kd Θ0 v = 0) : LFs Θ0 Θ v s [] [] [] := sorry
theorem DJ.mk {F : List Int} {w1 w2 v3 v4 v6 : Int} (e1 : gt F 1 = w1) (e2 : gt F 2 = w2) (e3 : gt F 3 = v3) (e4 : gt F 4 = v4) (e6 : gt F 6 = v6) (h34 : v3 ≠ v4) (h36 : v3 ≠ v6) (h46 : v4 ≠ v6) (h13 : w1 ≠ v3) (h14 : w1 ≠ v4) (h16 : w1 ≠ v6) (h23 : w2 ≠ v3) (h24 : w2 ≠ v4) (h26 : w2 ≠ v6) : DJ F [] := sorry
def mxO (H : Hd) (n : List Int) : List Mb := mxF (vlF H n)
def toF (H : Hd) : List Mb := mxO H TON ++ mxO H CCN
def ciTopG (l : List Int) (H : Hd) : Int := (9 * len l + costL (lsG l 0) (ptE l) + 110 * ((ptE l).length : Int) + 200) + (187 * (len (vlF H FRMN) + len (vlF H TON) + len (vlF H CCN)) + 900) + (2 * ((mxO H TON).length + (mxO H CCN).length : Int) + 30)
def ciTopOk (H : Hd) : Prop := len (vlF H FRMN) ≤ 90000 ∧ len (vlF H TON) ≤ 90000 ∧ len (vlF H CCN) ≤ 90000 ∧ ((mxO H TON).length : Int) ≤ 1000000 ∧ ((mxO H CCN).length : Int) ≤ 1000000
section CI9
variable {ω : AO} {d G g : Nat} {Θ0 Θ Θ1 Θ2 : Th} {a tl ch arr s b x p v k : Int} {FT F : List Int} {l : List Int} {H : Hd}
theorem u_ciTop {Q : Th → Prop} (hd : 34 ≤ d) (hC : CX Θ Θ a tl ch arr s b FT F) (hF12 : F.length = 12) (hx : Str Θ x l) (hb : byt l) (hl : len l ≤ 80000) (hH : evH (en (ptE l) 0) = H) (hok : ciTopOk H) (h0 : 0 ≤ a) (hG : ciTopG l H + 4 ≤ (G : Int))
    (hQ : ∀ Θb Θ' rs prs p v5 v16 v27 w1 w2 (g' : Nat), Le Θ Θb → Le Θb Θ' → PtO Θb p rs prs (lsG l 0) (ptE l) (shF (ptE l) 9 0) (hgF (ptE l) (shF (ptE l) 9 0)) → len rs ≤ 60 → 0 < len rs → (∀ i, i ∈ shF (ptE l) 9 0 → 0 ≤ i ∧ i < len rs) → (∀ j, 0 ≤ j → j < len rs → hdOk (evH (en (ptE l) j)) ∧ 0 ≤ evB (en (ptE l) j)) →
      CSt Θ Θ' a tl ch arr s b FT ((((((F.set 3 v5).set 4 v16).set 6 v27).set 0 p).set 1 w1).set 2 w2) (mxO H FRMN) (toF H) 0 0 [] [] [] [] [] → (g' : Int) ≤ ciTopG l H + 4 → W2_X19_init_83 ω d G a tl g' Θ' Q) : w2_X19_init ω d G a x tl Θ Q := sorry
end CI9

/-! 76.d0.lean.txt -/
/-! contents: the whole constructor -/
set_option maxRecDepth 100000
set_option maxHeartbeats 4000000
def ctE (l : List Int) : List Ev := ptE l
def ctH (l : List Int) : Hd := evH (en (ptE l) 0)
def ctS (l : List Int) : List Int := shF (ptE l) 9 0
def ctA (l : List Int) : List Int := hgF (ptE l) (shF (ptE l) 9 0)
def ctTx (l : List Int) : List (List Int) := tnL (lsG l 0) (ptE l) (ctS l)
def ctFr (l : List Int) : List Mb := mxO (ctH l) FRMN
def ctTo (l : List Int) : List Mb := toF (ctH l)
def ctSj (l : List Int) : List Int := sjF (ctH l)
/-- the five fields -/
def ctFd (l : List Int) : List FdV := [adF false fd0 (srT (ctFr l)), adF false fd0 (srT (ctTo l)), fdA (ctSj l) 300 false fd0, adF true fd0 (ctTx l), adF false fd0 (ntX (ptE l) (ctA l))]
def cpF (v : FdV) : Int := cpZ v.1.length
theorem cpF_nn {v : FdV} : 0 ≤ cpF v := sorry
def ciG (l : List Int) : Int := ciTopG l (ctH l) + ci83G (ctH l) + (tnG (lsG l 0) (ptE l) (ctS l) + cpZ (ctS l).length) + (mbG (ctFr l) + cpF (adF false fd0 (srT (ctFr l)))) + (mbG (ctTo l) + cpF (adF false fd0 (srT (ctTo l)))) + (nmG (ptE l) (ctA l) + cpZ (ctA l).length + 94 * len (ctSj l) + cpF (fdA (ctSj l) 300 false fd0)) + (txG (ctTx l) + cpF (adF true fd0 (ctTx l))) + (ntG (ptE l) (ctA l) + cpF (adF false fd0 (ntX (ptE l) (ctA l)))) + endC (ctFd l) (ctSj l) + 100
def ciOk (l : List Int) : Prop := len l ≤ 80000 ∧ ciTopOk (ctH l) ∧ ci83Ok (ctH l) ∧ tnOk (lsG l 0) (ptE l) (ctS l) ∧ nmOk (ptE l) (ctA l) ∧ mbOk (ctFr l) ∧ mbOk (ctTo l) ∧ len (ctSj l) ≤ 1890 ∧ txOk (ctTx l) ∧
  (sumL (srT (ctFr l)) ≤ 4000 ∧ ((ctFr l).length : Int) ≤ 4000) ∧ (sumL (srT (ctTo l)) ≤ 4000 ∧ ((ctTo l).length : Int) ≤ 4000) ∧ (sumL (ctTx l) ≤ 4000 ∧ ((ctTx l).length : Int) ≤ 4000) ∧ (sumL (ntX (ptE l) (ctA l)) ≤ 4000 ∧ ((ctA l).length : Int) ≤ 4000)
/-- mailboxes and fields that are done -/
def MbX (Θ : Th) (r : Int) (v : Mb) : Prop := ∃ a b c x y, Fx Θ r (42, [a, b, c, x, y], 0, 0) ∧ Str Θ a v.1 ∧ Str Θ b v.2.1 ∧ Str Θ c v.2.2 ∧ TxO Θ x (shT v) ∧ TxO Θ y (shA v)
def FdX (Θ : Th) (r : Int) (v : FdV) : Prop := ∃ p s rs c e, Fx Θ r (50, [p, s, 300, v.2.1, v.2.2.1, b2i v.2.2.2], 0, 0) ∧ Fx Θ p (3, rs, c, e) ∧ all2 (PcO Θ) rs v.1
def LxO {α : Type} (P : Th → Int → α → Prop) (Θ : Th) (r : Int) (xs : List α) : Prop := ∃ rs c e, Fx Θ r (3, rs, c, e) ∧ all2 (P Θ) rs xs
/-- a content -/
def CtO (Θ : Th) (r : Int) (l : List Int) : Prop := ∃ F rs prs, Fx Θ r (32, F, 0, 0) ∧ PtO Θ (gt F 0) rs prs (lsG l 0) (ptE l) (ctS l) (ctA l) ∧ len rs ≤ 60 ∧ LxO MbX Θ (gt F 1) (ctFr l) ∧ LxO MbX Θ (gt F 2) (ctTo l) ∧ LxO TxO Θ (gt F 3) (ctTx l) ∧ LxO TxO Θ (gt F 4) (nmL (ptE l) (ctA l)) ∧
  LxO Str Θ (gt F 5) (reF (vlF (ctH l) REFS) (vlF (ctH l) INRT)) ∧ LxO FdX Θ (gt F 6) (ctFd l) ∧ TxO Θ (gt F 7) (ctSj l) ∧ WdO Θ (gt F 8) (woF (VSo (ctFd l))) ∧ Str Θ (gt F 9) (baF (smS (ctSj l))) ∧ gt F 10 = (if baF (smS (ctSj l)) = trmL (smS (ctSj l)) then 0 else 1) ∧ gt F 11 = dtF (ctH l)
theorem all2_mem {α : Type} {P P' : Int → α → Prop} : ∀ {rs : List Int} {xs : List α}, (∀ r x, r ∈ rs → P r x → P' r x) → all2 P rs xs → all2 P' rs xs := sorry
theorem MbX.le {Θ Θ1 : Th} {r : Int} {v : Mb} (h : MbX Θ r v) (L : Le Θ Θ1) : MbX Θ1 r v := sorry
theorem FdX.le {Θ Θ1 : Th} {r : Int} {v : FdV} (h : FdX Θ r v) (L : Le Θ Θ1) : FdX Θ1 r v := sorry
theorem LxO.le {α : Type} {P : Th → Int → α → Prop} {Θ Θ1 : Th} {r : Int} {xs : List α} (h : LxO P Θ r xs) (L : Le Θ Θ1) (hP : ∀ x v, P Θ x v → P Θ1 x v) : LxO P Θ1 r xs := sorry
theorem CtO.le {Θ Θ1 : Th} {r : Int} {l : List Int} (h : CtO Θ r l) (L : Le Θ Θ1) : CtO Θ1 r l := sorry
theorem LTx.fin {Θ0 Θ : Th} {v : Int} {xs : List (List Int)} {A : Int → Prop} (h : LTx Θ0 Θ v xs) (hA : ∀ z, kd Θ0 z = 0 → A z) : LxO TxO (fr Θ A) v xs := sorry
theorem LMd.fin {Θ0 Θ : Th} {v : Int} {L : List Mb} {A : Int → Prop} (h : LMd Θ0 Θ v L L.length) (hA : ∀ z, kd Θ0 z = 0 → A z) : LxO MbX (fr Θ A) v L := sorry
theorem LFs.fin {Θ0 Θ : Th} {v s : Int} {fs pp : List Int} {fds : List FdV} {A : Int → Prop} (h : LFs Θ0 Θ v s fs pp fds) (hA : ∀ z, kd Θ0 z = 0 → A z) : LxO FdX (fr Θ A) v fds := sorry
theorem StO.frz {Θ : Th} {s b h : Int} {w : List Int} {A : Int → Prop} (H : StO Θ s b w h) (h1 : ¬ A s) (h2 : ¬ A b) : StO (fr Θ A) s b w h := sorry
theorem fOK_at {l : List Int} (h : ciOk l) : ∀ i : Nat, i < 4 → ∃ n c, FOK ((ctFd l).getD i fd0) n c ∧ n ≤ 4000 ∧ c ≤ 4000 := sorry
theorem sjF_in {H : Hd} : ∀ x, x ∈ sjF H → 0 ≤ x ∧ x < 65536 := tfF_in
section CID
variable {ω : AO} {d G : Nat} {Θ Θ1 Θ2 : Th} {a tl ch arr s b x v : Int} {FT F : List Int} {l : List Int} {cl : Cl}
theorem u_X19_init {Q : Th → Prop} (hd : 40 ≤ d) (hC : CX Θ Θ a tl ch arr s b FT F) (hF12 : F.length = 12) (hx : Str Θ x l) (hb : byt l) (hok : ciOk l) (hG : ciG l ≤ (G : Int))
    (hQ : ∀ Θ', GrX (exC a arr s b) Θ Θ' → CHS (fr Θ' (fun z => z = a ∨ kd Θ z = 0)) ch arr → (∃ w h, StO (fr Θ' (fun z => z = a ∨ kd Θ z = 0)) s b w h) → CtO (fr Θ' (fun z => z = a ∨ kd Θ z = 0)) a l → Q (fr Θ' (fun z => z = a ∨ kd Θ z = 0))) : w2_X19_init ω d G a x tl Θ Q := sorry
end CID

/-! 76.d1.lean.txt -/
/-! a tool for constructors; the tools' constructor -/
set_option maxRecDepth 100000
/-- these objects stand so, none is frozen, all are different -/
def OW (Θ : Th) : List (Int × Cl) → Prop
  | [] => True
  | p :: r => (xo Θ p.1 = p.2 ∧ ¬ fz Θ p.1 ∧ 0 < p.2.1) ∧ (∀ q, q ∈ r → q.1 ≠ p.1) ∧ OW Θ r
section OWS
variable {Θ Θ1 Θ2 : Th} {a v k x e cc : Int} {c c' : Cl} {t : Nat} {l : List Int} {L : List (Int × Cl)} {ex : Int → Prop} {p : Int × Cl}
theorem OW.mem : ∀ {L : List (Int × Cl)}, OW Θ L → ∀ p, p ∈ L → xo Θ p.1 = p.2 ∧ ¬ fz Θ p.1 ∧ 0 < p.2.1 := sorry
theorem OW.step : ∀ {L : List (Int × Cl)}, OW Θ L → (∀ p, p ∈ L → xo Θ1 p.1 = p.2 ∧ ¬ fz Θ1 p.1) → OW Θ1 L := sorry
theorem OW.put : ∀ {L : List (Int × Cl)} {n : Nat}, OW Θ L → L[n]? = some (v, c) → xo Θ1 v = c' → ¬ fz Θ1 v → 0 < c'.1 → (∀ p, p ∈ L → p.1 ≠ v → xo Θ1 p.1 = p.2 ∧ ¬ fz Θ1 p.1) → OW Θ1 (L.set n (v, c')) := sorry
/-- an object is being made: these are its parts -/
def MK (Θ : Th) (a : Int) (Θ1 : Th) (L : List (Int × Cl)) : Prop := (0 < kd Θ a ∧ kd Θ a < 200) ∧ GrX (· = a) Θ Θ1 ∧ OW Θ1 L ∧ ∀ p, p ∈ L → p.1 = a ∨ kd Θ p.1 = 0
theorem MK.start (h : xo Θ a = c) (hf : ¬ fz Θ a) (hc : 0 < c.1 ∧ c.1 < 200) : MK Θ a Θ [(a, c)] := sorry
theorem MK.kda (h : MK Θ a Θ1 L) : kd Θ1 a = kd Θ a := h.2.1.1.2.1 a h.1.1 h.1.2
theorem MK.old (h : MK Θ a Θ1 L) (hv : kd Θ1 v = 0) : kd Θ v = 0 := sorry
theorem MK.nu (h : MK Θ a Θ1 L) (B : Bl Θ1) (u : nt Θ1 ≤ v ∧ 0 ≤ v) (t : Θ2 = nu Θ1 v c) (hc : 0 < c.1) : MK Θ a Θ2 ((v, c) :: L) := sorry
theorem MK.uq (h : MK Θ a Θ1 L) {n : Nat} (hn : L[n]? = some (v, c)) (hk : c.1 < 200 → c'.1 = c.1) (hc : 0 < c'.1) (t : Θ2 = uq Θ1 v c') : MK Θ a Θ2 (L.set n (v, c')) := sorry
theorem MK.pfE (h : MK Θ a Θ1 L) {n : Nat} (hn : L[n]? = some (v, (t, l, cc, e))) (hx : Θ2 = pf Θ1 v k x) : MK Θ a Θ2 (L.set n (v, (t, l.set k.toNat x, cc, e))) := sorry
theorem MK.gr (h : MK Θ a Θ1 L) (g : Gr Θ1 Θ2) : MK Θ a Θ2 L := sorry
/-- a call that makes the newest -/
theorem MK.call (h : MK Θ a Θ1 ((v, c) :: L)) (ha : v ≠ a) (g : GrX (· = v) Θ1 Θ2) : MK Θ a Θ2 L := sorry
end OWS
section X2I
variable {ω : AO} {d G : Nat} {Θ : Th} {a : Int}
theorem u_X2_init {Q : Th → Prop} (hd : 4 ≤ d) (h : xo Θ a = (16, [-1, -1, -1, -1, -1], 0, 0)) (hf : ¬ fz Θ a) (hG : 26 ≤ G)
    (hQ : ∀ Θ' ch arr st sb ti to tt, GrX (· = a) Θ Θ' → kd Θ ch = 0 → kd Θ arr = 0 → kd Θ st = 0 → kd Θ sb = 0 → kd Θ ti = 0 → kd Θ to = 0 → kd Θ tt = 0 → ¬ fz Θ' a → TlO Θ' a ch arr st sb ti to tt → Q Θ') : w2_X2_init ω d G a Θ Q := sorry
end X2I

