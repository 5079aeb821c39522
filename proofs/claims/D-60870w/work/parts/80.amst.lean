/-! 80.a0.lean.txt -/
/-! nodes of a map, plain or of a tree, at the level of objects -/
section NOD
variable {ω : AO} {S : AS} {Θ : Th} {a j x : Int}
theorem R2.nod (h : R2 ω S Θ) (hk : kd Θ a = 12 ∨ kd Θ a = 13) : tg S a = 12 ∨ tg S a = 13 := sorry
theorem nfi_12 : nfi 12 j = j := rfl
theorem nfi_13 : nfi 13 j = j + 2 := rfl
theorem R2.nodg (h : R2 ω S Θ) (hk : kd Θ a = 12 ∨ kd Θ a = 13) (h0 : 0 ≤ j ∧ j < 4) : ct S a (nfi (tg S a) j) = gt (vv Θ a) (nfi (kd Θ a) j) := sorry
theorem R2.nodp (h : R2 ω S Θ) (w : bel S) (hk : kd Θ a = 12 ∨ kd Θ a = 13) (h0 : 0 ≤ j ∧ j < 4) (hf : ¬ fz Θ a) : R2 ω (wr S a (nfi (tg S a) j) x) (pf Θ a (nfi (kd Θ a) j) x) := sorry
end NOD

/-! 80.aa.lean.txt -/
/-! segments -/
set_option maxRecDepth 100000
def w2_J9_comparableClassFor (ω : AO) (d G : Nat) (l0 : Int) (Θ : Th) (Q : Int → Th → Prop) : Prop := Hid (∀ S, bel S → R2 ω S Θ → Ctr ω yJ9_comparableClassFor cJ9_comparableClassFor 9 (some (.object "java/lang/Class")) d G [(2, l0)] S (eA S (q2 ω Θ Q)))
def w2_J9_compareComparables (ω : AO) (d G : Nat) (l0 l1 l2 : Int) (Θ : Th) (Q : Int → Th → Prop) : Prop := Hid (∀ S, bel S → R2 ω S Θ → Ctr ω yJ9_compareComparables cJ9_compareComparables 3 (some .int) d G [(2, l0), (2, l1), (2, l2)] S (eI S (q2 ω Θ Q)))
def w2_J33_equals (ω : AO) (d G : Nat) (l0 l1 : Int) (Θ : Th) (Q : Int → Th → Prop) : Prop := Hid (∀ S, bel S → R2 ω S Θ → Ctr ω yJ33_equals cJ33_equals 2 (some .boolean) d G [(2, l0), (2, l1)] S (eZ S (q2 ω Θ Q)))
def w2_J8_init (ω : AO) (d G : Nat) (l0 : Int) (Θ : Th) (Q : Th → Prop) : Prop := Hid (∀ S, bel S → R2 ω S Θ → Ctr ω yJ8_init cJ8_init 1 none d G [(2, l0)] S (eU S (q2U ω Θ Q)))
def w2_J9_hash (ω : AO) (d G : Nat) (l0 : Int) (Θ : Th) (Q : Int → Th → Prop) : Prop := Hid (∀ S, bel S → R2 ω S Θ → Ctr ω yJ9_hash cJ9_hash 2 (some .int) d G [(2, l0)] S (eI S (q2 ω Θ Q)))
def w2_J28_init (ω : AO) (d G : Nat) (l0 l1 l2 l3 l4 : Int) (Θ : Th) (Q : Th → Prop) : Prop := Hid (∀ S, bel S → R2 ω S Θ → Ctr ω yJ28_init cJ28_init 5 none d G [(2, l0), (0, l1), (2, l2), (2, l3), (2, l4)] S (eU S (q2U ω Θ Q)))
def w2_J29_init (ω : AO) (d G : Nat) (l0 l1 l2 l3 l4 : Int) (Θ : Th) (Q : Th → Prop) : Prop := Hid (∀ S, bel S → R2 ω S Θ → Ctr ω yJ29_init cJ29_init 5 none d G [(2, l0), (0, l1), (2, l2), (2, l3), (2, l4)] S (eU S (q2U ω Θ Q)))
def w2_J30_init (ω : AO) (d G : Nat) (l0 l1 l2 l3 l4 : Int) (Θ : Th) (Q : Th → Prop) : Prop := Hid (∀ S, bel S → R2 ω S Θ → Ctr ω yJ30_init cJ30_init 5 none d G [(2, l0), (0, l1), (2, l2), (2, l3), (2, l4)] S (eU S (q2U ω Θ Q)))
def w2_J9_newNode (ω : AO) (d G : Nat) (l0 l1 l2 l3 l4 : Int) (Θ : Th) (Q : Int → Th → Prop) : Prop := Hid (∀ S, bel S → R2 ω S Θ → Ctr ω yJ9_newNode cJ9_newNode 5 (some (.object "java/util/HashMap$Node")) d G [(2, l0), (0, l1), (2, l2), (2, l3), (2, l4)] S (eA S (q2 ω Θ Q)))
def w2_J9_newTreeNode (ω : AO) (d G : Nat) (l0 l1 l2 l3 l4 : Int) (Θ : Th) (Q : Int → Th → Prop) : Prop := Hid (∀ S, bel S → R2 ω S Θ → Ctr ω yJ9_newTreeNode cJ9_newTreeNode 5 (some (.object "java/util/HashMap$TreeNode")) d G [(2, l0), (0, l1), (2, l2), (2, l3), (2, l4)] S (eA S (q2 ω Θ Q)))
def w2_J9_replacementNode (ω : AO) (d G : Nat) (l0 l1 l2 : Int) (Θ : Th) (Q : Int → Th → Prop) : Prop := Hid (∀ S, bel S → R2 ω S Θ → Ctr ω yJ9_replacementNode cJ9_replacementNode 3 (some (.object "java/util/HashMap$Node")) d G [(2, l0), (2, l1), (2, l2)] S (eA S (q2 ω Θ Q)))
def w2_J9_replacementTreeNode (ω : AO) (d G : Nat) (l0 l1 l2 : Int) (Θ : Th) (Q : Int → Th → Prop) : Prop := Hid (∀ S, bel S → R2 ω S Θ → Ctr ω yJ9_replacementTreeNode cJ9_replacementTreeNode 3 (some (.object "java/util/HashMap$TreeNode")) d G [(2, l0), (2, l1), (2, l2)] S (eA S (q2 ω Θ Q)))
def w2_J9_afterNodeAccess (ω : AO) (d G : Nat) (l0 l1 : Int) (Θ : Th) (Q : Th → Prop) : Prop := Hid (∀ S, bel S → R2 ω S Θ → Ctr ω yJ9_afterNodeAccess cJ9_afterNodeAccess 2 none d G [(2, l0), (2, l1)] S (eU S (q2U ω Θ Q)))
def w2_J9_afterNodeInsertion (ω : AO) (d G : Nat) (l0 l1 : Int) (Θ : Th) (Q : Th → Prop) : Prop := Hid (∀ S, bel S → R2 ω S Θ → Ctr ω yJ9_afterNodeInsertion cJ9_afterNodeInsertion 2 none d G [(2, l0), (0, l1)] S (eU S (q2U ω Θ Q)))
def w2_J30_root (ω : AO) (d G : Nat) (l0 : Int) (Θ : Th) (Q : Int → Th → Prop) : Prop := Hid (∀ S, bel S → R2 ω S Θ → Ctr ω yJ30_root cJ30_root 3 (some (.object "java/util/HashMap$TreeNode")) d G [(2, l0)] S (eA S (q2 ω Θ Q)))
def w2_J30_find (ω : AO) (d G : Nat) (l0 l1 l2 l3 : Int) (Θ : Th) (Q : Int → Th → Prop) : Prop := Hid (∀ S, bel S → R2 ω S Θ → Ctr ω yJ30_find cJ30_find 11 (some (.object "java/util/HashMap$TreeNode")) d G [(2, l0), (0, l1), (2, l2), (2, l3)] S (eA S (q2 ω Θ Q)))
def w2_J30_getTreeNode (ω : AO) (d G : Nat) (l0 l1 l2 : Int) (Θ : Th) (Q : Int → Th → Prop) : Prop := Hid (∀ S, bel S → R2 ω S Θ → Ctr ω yJ30_getTreeNode cJ30_getTreeNode 3 (some (.object "java/util/HashMap$TreeNode")) d G [(2, l0), (0, l1), (2, l2)] S (eA S (q2 ω Θ Q)))
def w2_J30_rotateLeft (ω : AO) (d G : Nat) (l0 l1 : Int) (Θ : Th) (Q : Int → Th → Prop) : Prop := Hid (∀ S, bel S → R2 ω S Θ → Ctr ω yJ30_rotateLeft cJ30_rotateLeft 5 (some (.object "java/util/HashMap$TreeNode")) d G [(2, l0), (2, l1)] S (eA S (q2 ω Θ Q)))
def w2_J30_rotateRight (ω : AO) (d G : Nat) (l0 l1 : Int) (Θ : Th) (Q : Int → Th → Prop) : Prop := Hid (∀ S, bel S → R2 ω S Θ → Ctr ω yJ30_rotateRight cJ30_rotateRight 5 (some (.object "java/util/HashMap$TreeNode")) d G [(2, l0), (2, l1)] S (eA S (q2 ω Θ Q)))
def w2_J30_balanceInsertion (ω : AO) (d G : Nat) (l0 l1 : Int) (Θ : Th) (Q : Int → Th → Prop) : Prop := Hid (∀ S, bel S → R2 ω S Θ → Ctr ω yJ30_balanceInsertion cJ30_balanceInsertion 6 (some (.object "java/util/HashMap$TreeNode")) d G [(2, l0), (2, l1)] S (eA S (q2 ω Θ Q)))
def w2_J30_moveRootToFront (ω : AO) (d G : Nat) (l0 l1 : Int) (Θ : Th) (Q : Th → Prop) : Prop := Hid (∀ S, bel S → R2 ω S Θ → Ctr ω yJ30_moveRootToFront cJ30_moveRootToFront 7 none d G [(2, l0), (2, l1)] S (eU S (q2U ω Θ Q)))
def w2_J30_treeify (ω : AO) (d G : Nat) (l0 l1 : Int) (Θ : Th) (Q : Th → Prop) : Prop := Hid (∀ S, bel S → R2 ω S Θ → Ctr ω yJ30_treeify cJ30_treeify 13 none d G [(2, l0), (2, l1)] S (eU S (q2U ω Θ Q)))
def w2_J30_untreeify (ω : AO) (d G : Nat) (l0 l1 : Int) (Θ : Th) (Q : Int → Th → Prop) : Prop := Hid (∀ S, bel S → R2 ω S Θ → Ctr ω yJ30_untreeify cJ30_untreeify 6 (some (.object "java/util/HashMap$Node")) d G [(2, l0), (2, l1)] S (eA S (q2 ω Θ Q)))
def w2_J30_split (ω : AO) (d G : Nat) (l0 l1 l2 l3 l4 : Int) (Θ : Th) (Q : Th → Prop) : Prop := Hid (∀ S, bel S → R2 ω S Θ → Ctr ω yJ30_split cJ30_split 14 none d G [(2, l0), (2, l1), (2, l2), (0, l3), (0, l4)] S (eU S (q2U ω Θ Q)))
def w2_J30_putTreeVal (ω : AO) (d G : Nat) (l0 l1 l2 l3 l4 l5 : Int) (Θ : Th) (Q : Int → Th → Prop) : Prop := Hid (∀ S, bel S → R2 ω S Θ → Ctr ω yJ30_putTreeVal cJ30_putTreeVal 16 (some (.object "java/util/HashMap$TreeNode")) d G [(2, l0), (2, l1), (2, l2), (0, l3), (2, l4), (2, l5)] S (eA S (q2 ω Θ Q)))
def w2_J9_getNode (ω : AO) (d G : Nat) (l0 l1 : Int) (Θ : Th) (Q : Int → Th → Prop) : Prop := Hid (∀ S, bel S → R2 ω S Θ → Ctr ω yJ9_getNode cJ9_getNode 8 (some (.object "java/util/HashMap$Node")) d G [(2, l0), (2, l1)] S (eA S (q2 ω Θ Q)))
def w2_J9_resize (ω : AO) (d G : Nat) (l0 : Int) (Θ : Th) (Q : Int → Th → Prop) : Prop := Hid (∀ S, bel S → R2 ω S Θ → Ctr ω yJ9_resize cJ9_resize 14 (some (.array (Jvm.ClassFile.FieldType.object "java/util/HashMap$Node"))) d G [(2, l0)] S (eA S (q2 ω Θ Q)))
def w2_J9_treeifyBin (ω : AO) (d G : Nat) (l0 l1 l2 : Int) (Θ : Th) (Q : Th → Prop) : Prop := Hid (∀ S, bel S → R2 ω S Θ → Ctr ω yJ9_treeifyBin cJ9_treeifyBin 9 none d G [(2, l0), (2, l1), (0, l2)] S (eU S (q2U ω Θ Q)))
def w2_J9_putVal (ω : AO) (d G : Nat) (l0 l1 l2 l3 l4 l5 : Int) (Θ : Th) (Q : Int → Th → Prop) : Prop := Hid (∀ S, bel S → R2 ω S Θ → Ctr ω yJ9_putVal cJ9_putVal 13 (some (.object "java/lang/Object")) d G [(2, l0), (0, l1), (2, l2), (2, l3), (0, l4), (0, l5)] S (eA S (q2 ω Θ Q)))

set_option maxHeartbeats 4000000 in
theorem s2_J8_init {ω : AO} {d G : Nat} {l0 : Int} {Θ : Th} {Q : Th → Prop} (hB : (1 ≤ d) ∧ (0 ≤ l0) ∧ Q Θ) : w2_J8_init ω d G l0 Θ Q := sorry
set_option maxHeartbeats 4000000 in
theorem s2_J9_init {ω : AO} {d G : Nat} {l0 : Int} {Θ : Th} {Q : Th → Prop} (hB : (1 ≤ d) ∧ (0 ≤ l0) ∧ ∃ G1 : Nat, (0 + G1 ≤ G) ∧ w2_J8_init ω (d - 1) G1 l0 Θ (fun Θ1 => ∀ (L1 : Le Θ Θ1), (kd Θ1 l0 = 4) ∧ (¬ fz Θ1 l0) ∧ ∀ (Θ7 : Th) (t7 : Θ7 = pf Θ1 l0 7 1061158912), (0 + G1 ≤ G) ∧ Q Θ7)) : w2_J9_init ω d G l0 Θ Q := sorry
set_option maxHeartbeats 4000000 in
theorem s2_J9_hash {ω : AO} {d G : Nat} {l0 : Int} {Θ : Th} {Q : Int → Th → Prop} (hB : (∀ (c1 : 0 ≤ l0), (1 ≤ d) ∧ (kd Θ l0 = 2) ∧ ∃ G9 : Nat, (0 + G9 ≤ G) ∧ w2_J2_hashCode ω (d - 1) G9 l0 Θ (fun x9 Θ9 => ∀ (L9 : Le Θ Θ9) (r9 : -2147483648 ≤ x9 ∧ x9 < 2147483648), (0 + G9 ≤ G) ∧ Q (xorI x9 (ushrI x9 16)) Θ9)) ∧ (∀ (c1 : l0 < 0), Q 0 Θ)) : w2_J9_hash ω d G l0 Θ Q := sorry
set_option maxHeartbeats 4000000 in
theorem s2_J28_init {ω : AO} {d G : Nat} {l0 l1 l2 l3 l4 : Int} {Θ : Th} {Q : Th → Prop} (hB : (1 ≤ d) ∧ (0 ≤ l0) ∧ (kd Θ l0 = 12 ∨ kd Θ l0 = 13) ∧ (¬ fz Θ l0) ∧ (-2147483648 ≤ l1 ∧ l1 < 2147483648) ∧ ∀ (Θ6 : Th) (t6 : Θ6 = pf Θ l0 (nfi (kd Θ l0) 0) l1), (kd Θ6 l0 = 12 ∨ kd Θ6 l0 = 13) ∧ (¬ fz Θ6 l0) ∧ (-1 ≤ l2) ∧ ∀ (Θ11 : Th) (t11 : Θ11 = pf Θ6 l0 (nfi (kd Θ6 l0) 1) l2), (kd Θ11 l0 = 12 ∨ kd Θ11 l0 = 13) ∧ (¬ fz Θ11 l0) ∧ (-1 ≤ l3) ∧ ∀ (Θ16 : Th) (t16 : Θ16 = pf Θ11 l0 (nfi (kd Θ11 l0) 2) l3), (kd Θ16 l0 = 12 ∨ kd Θ16 l0 = 13) ∧ (¬ fz Θ16 l0) ∧ (-1 ≤ l4) ∧ ∀ (Θ22 : Th) (t22 : Θ22 = pf Θ16 l0 (nfi (kd Θ16 l0) 3) l4), Q Θ22) : w2_J28_init ω d G l0 l1 l2 l3 l4 Θ Q := sorry
set_option maxHeartbeats 4000000 in
theorem s2_J29_init {ω : AO} {d G : Nat} {l0 l1 l2 l3 l4 : Int} {Θ : Th} {Q : Th → Prop} (hB : (1 ≤ d) ∧ (0 ≤ l0) ∧ ∃ G6 : Nat, (0 + G6 ≤ G) ∧ w2_J28_init ω (d - 1) G6 l0 l1 l2 l3 l4 Θ (fun Θ6 => ∀ (L6 : Le Θ Θ6), (0 + G6 ≤ G) ∧ Q Θ6)) : w2_J29_init ω d G l0 l1 l2 l3 l4 Θ Q := sorry
set_option maxHeartbeats 4000000 in
theorem s2_J30_init {ω : AO} {d G : Nat} {l0 l1 l2 l3 l4 : Int} {Θ : Th} {Q : Th → Prop} (hB : (1 ≤ d) ∧ (0 ≤ l0) ∧ ∃ G6 : Nat, (0 + G6 ≤ G) ∧ w2_J29_init ω (d - 1) G6 l0 l1 l2 l3 l4 Θ (fun Θ6 => ∀ (L6 : Le Θ Θ6), (0 + G6 ≤ G) ∧ Q Θ6)) : w2_J30_init ω d G l0 l1 l2 l3 l4 Θ Q := sorry
set_option maxHeartbeats 4000000 in
theorem s2_J9_newNode {ω : AO} {d G : Nat} {l0 l1 l2 l3 l4 : Int} {Θ : Th} {Q : Int → Th → Prop} (hB : (0 + 1 ≤ G) ∧ ∀ (v0 : Int) (Θ0 : Th) (u0 : nt Θ ≤ v0 ∧ 0 ≤ v0) (b0 : Bl Θ) (t0 : Θ0 = nu Θ v0 (12, [0, -1, -1, -1], 0, 0)), (1 ≤ d) ∧ ∃ G9 : Nat, (0 + 1 + G9 ≤ G) ∧ w2_J28_init ω (d - 1) G9 v0 l1 l2 l3 l4 Θ0 (fun Θ9 => ∀ (L9 : Le Θ0 Θ9), (0 + 1 + G9 ≤ G) ∧ Q v0 Θ9)) : w2_J9_newNode ω d G l0 l1 l2 l3 l4 Θ Q := sorry
set_option maxHeartbeats 4000000 in
theorem s2_J9_newTreeNode {ω : AO} {d G : Nat} {l0 l1 l2 l3 l4 : Int} {Θ : Th} {Q : Int → Th → Prop} (hB : (0 + 3 ≤ G) ∧ ∀ (v0 : Int) (Θ0 : Th) (u0 : nt Θ ≤ v0 ∧ 0 ≤ v0) (b0 : Bl Θ) (t0 : Θ0 = nu Θ v0 (13, [-1, -1, 0, -1, -1, -1, -1, -1, -1, -1, 0], 0, 0)), (1 ≤ d) ∧ ∃ G9 : Nat, (0 + 3 + G9 ≤ G) ∧ w2_J30_init ω (d - 1) G9 v0 l1 l2 l3 l4 Θ0 (fun Θ9 => ∀ (L9 : Le Θ0 Θ9), (0 + 3 + G9 ≤ G) ∧ Q v0 Θ9)) : w2_J9_newTreeNode ω d G l0 l1 l2 l3 l4 Θ Q := sorry
set_option maxHeartbeats 4000000 in
theorem s2_J9_replacementNode {ω : AO} {d G : Nat} {l0 l1 l2 : Int} {Θ : Th} {Q : Int → Th → Prop} (hB : (0 + 1 ≤ G) ∧ ∀ (v0 : Int) (Θ0 : Th) (u0 : nt Θ ≤ v0 ∧ 0 ≤ v0) (b0 : Bl Θ) (t0 : Θ0 = nu Θ v0 (12, [0, -1, -1, -1], 0, 0)), (kd Θ0 l1 = 12 ∨ kd Θ0 l1 = 13) ∧ ∀ (v5 : Int) (e5 : v5 = gt (vv Θ0 l1) (nfi (kd Θ0 l1) 0)) (r5 : -2147483648 ≤ v5 ∧ v5 < 2147483648), ∀ (v9 : Int) (e9 : v9 = gt (vv Θ0 l1) (nfi (kd Θ0 l1) 1)) (r9 : -1 ≤ v9), ∀ (v13 : Int) (e13 : v13 = gt (vv Θ0 l1) (nfi (kd Θ0 l1) 2)) (r13 : -1 ≤ v13), (1 ≤ d) ∧ ∃ G17 : Nat, (0 + 1 + G17 ≤ G) ∧ w2_J28_init ω (d - 1) G17 v0 v5 v9 v13 l2 Θ0 (fun Θ17 => ∀ (L17 : Le Θ0 Θ17), (0 + 1 + G17 ≤ G) ∧ Q v0 Θ17)) : w2_J9_replacementNode ω d G l0 l1 l2 Θ Q := sorry
set_option maxHeartbeats 4000000 in
theorem s2_J9_replacementTreeNode {ω : AO} {d G : Nat} {l0 l1 l2 : Int} {Θ : Th} {Q : Int → Th → Prop} (hB : (0 + 3 ≤ G) ∧ ∀ (v0 : Int) (Θ0 : Th) (u0 : nt Θ ≤ v0 ∧ 0 ≤ v0) (b0 : Bl Θ) (t0 : Θ0 = nu Θ v0 (13, [-1, -1, 0, -1, -1, -1, -1, -1, -1, -1, 0], 0, 0)), (kd Θ0 l1 = 12 ∨ kd Θ0 l1 = 13) ∧ ∀ (v5 : Int) (e5 : v5 = gt (vv Θ0 l1) (nfi (kd Θ0 l1) 0)) (r5 : -2147483648 ≤ v5 ∧ v5 < 2147483648), ∀ (v9 : Int) (e9 : v9 = gt (vv Θ0 l1) (nfi (kd Θ0 l1) 1)) (r9 : -1 ≤ v9), ∀ (v13 : Int) (e13 : v13 = gt (vv Θ0 l1) (nfi (kd Θ0 l1) 2)) (r13 : -1 ≤ v13), (1 ≤ d) ∧ ∃ G17 : Nat, (0 + 3 + G17 ≤ G) ∧ w2_J30_init ω (d - 1) G17 v0 v5 v9 v13 l2 Θ0 (fun Θ17 => ∀ (L17 : Le Θ0 Θ17), (0 + 3 + G17 ≤ G) ∧ Q v0 Θ17)) : w2_J9_replacementTreeNode ω d G l0 l1 l2 Θ Q := sorry
set_option maxHeartbeats 4000000 in
theorem s2_J9_afterNodeAccess {ω : AO} {d G : Nat} {l0 l1 : Int} {Θ : Th} {Q : Th → Prop} (hB : Q Θ) : w2_J9_afterNodeAccess ω d G l0 l1 Θ Q := sorry
set_option maxHeartbeats 4000000 in
theorem s2_J9_afterNodeInsertion {ω : AO} {d G : Nat} {l0 l1 : Int} {Θ : Th} {Q : Th → Prop} (hB : Q Θ) : w2_J9_afterNodeInsertion ω d G l0 l1 Θ Q := sorry
def W2_J30_root_2 (ω : AO) (d G : Nat) (l1 : Int) (g : Nat) (Θ : Th) (Q : Int → Th → Prop) : Prop := Hid (SJ2 ω yJ30_root cJ30_root 3 (some (.object "java/util/HashMap$TreeNode")) d G (fun Sz Θz => (eA Sz (q2 ω Θz Q))) 2 [vN, (2, l1), vN] [] g Θ)
set_option maxHeartbeats 4000000 in
theorem s2_J30_root {ω : AO} {d G : Nat} {l0 : Int} {Θ : Th} {Q : Int → Th → Prop} (hB : W2_J30_root_2 ω d G l0 (0) Θ Q) : w2_J30_root ω d G l0 Θ Q := sorry
set_option maxHeartbeats 4000000 in
theorem s2_J30_root_2 {ω : AO} {d G : Nat} {l1 : Int} {g : Nat} {Θ : Th} {Q : Int → Th → Prop} (hB : (kd Θ l1 = 13) ∧ ∀ (v3 : Int) (e3 : v3 = gt (vv Θ l1) 6) (r3 : -1 ≤ v3), (∀ (c8 : 0 ≤ v3), W2_J30_root_2 ω d G v3 (g) Θ Q) ∧ (∀ (c8 : v3 < 0), (g ≤ G) ∧ (-1 ≤ l1) ∧ Q l1 Θ)) : W2_J30_root_2 ω d G l1 g Θ Q := sorry
def W2_J30_find_3 (ω : AO) (d G : Nat) (l1 l2 l3 l4 : Int) (g : Nat) (Θ : Th) (Q : Int → Th → Prop) : Prop := Hid (SJ2 ω yJ30_find cJ30_find 11 (some (.object "java/util/HashMap$TreeNode")) d G (fun Sz Θz => (eA Sz (q2 ω Θz Q))) 3 [vN, (0, l1), (2, l2), (2, l3), (2, l4), vN, vN, vN, vN, vN, vN] [] g Θ)
def W2_J30_find_77 (ω : AO) (d G : Nat) (l1 l2 l3 l7 l8 l9 : Int) (g : Nat) (Θ : Th) (Q : Int → Th → Prop) : Prop := Hid (SJ2 ω yJ30_find cJ30_find 11 (some (.object "java/util/HashMap$TreeNode")) d G (fun Sz Θz => (eA Sz (q2 ω Θz Q))) 77 [vN, (0, l1), (2, l2), (2, l3), vN, vN, vN, (2, l7), (2, l8), (2, l9), vN] [] g Θ)
def W2_J30_find_165 (ω : AO) (d G : Nat) (l1 l2 l3 l4 : Int) (g : Nat) (Θ : Th) (Q : Int → Th → Prop) : Prop := Hid (SJ2 ω yJ30_find cJ30_find 11 (some (.object "java/util/HashMap$TreeNode")) d G (fun Sz Θz => (eA Sz (q2 ω Θz Q))) 165 [vN, (0, l1), (2, l2), (2, l3), (2, l4), vN, vN, vN, vN, vN, vN] [] g Θ)
def W2_J30_find_114 (ω : AO) (d G : Nat) (l1 l2 l3 l7 l8 l9 : Int) (g : Nat) (Θ : Th) (Q : Int → Th → Prop) : Prop := Hid (SJ2 ω yJ30_find cJ30_find 11 (some (.object "java/util/HashMap$TreeNode")) d G (fun Sz Θz => (eA Sz (q2 ω Θz Q))) 114 [vN, (0, l1), (2, l2), (2, l3), vN, vN, vN, (2, l7), (2, l8), (2, l9), vN] [] g Θ)
def W2_J30_find_144 (ω : AO) (d G : Nat) (l1 l2 l3 l8 l9 : Int) (g : Nat) (Θ : Th) (Q : Int → Th → Prop) : Prop := Hid (SJ2 ω yJ30_find cJ30_find 11 (some (.object "java/util/HashMap$TreeNode")) d G (fun Sz Θz => (eA Sz (q2 ω Θz Q))) 144 [vN, (0, l1), (2, l2), (2, l3), vN, vN, vN, vN, (2, l8), (2, l9), vN] [] g Θ)
def W2_J30_find_139 (ω : AO) (d G : Nat) (l1 l2 l3 s0 : Int) (g : Nat) (Θ : Th) (Q : Int → Th → Prop) : Prop := Hid (SJ2 ω yJ30_find cJ30_find 11 (some (.object "java/util/HashMap$TreeNode")) d G (fun Sz Θz => (eA Sz (q2 ω Θz Q))) 139 [vN, (0, l1), (2, l2), (2, l3), vN, vN, vN, vN, vN, vN, vN] [(2, s0)] g Θ)
set_option maxHeartbeats 4000000 in
theorem s2_J30_find {ω : AO} {d G : Nat} {l0 l1 l2 l3 : Int} {Θ : Th} {Q : Int → Th → Prop} (hB : W2_J30_find_3 ω d G l1 l2 l3 l0 (0) Θ Q) : w2_J30_find ω d G l0 l1 l2 l3 Θ Q := sorry
set_option maxHeartbeats 4000000 in
theorem s2_J30_find_3 {ω : AO} {d G : Nat} {l1 l2 l3 l4 : Int} {g : Nat} {Θ : Th} {Q : Int → Th → Prop} (hB : (kd Θ l4 = 13) ∧ ∀ (v5 : Int) (e5 : v5 = gt (vv Θ l4) 7) (r5 : -1 ≤ v5), ∀ (v12 : Int) (e12 : v12 = gt (vv Θ l4) 8) (r12 : -1 ≤ v12), ∀ (v19 : Int) (e19 : v19 = gt (vv Θ l4) 2) (r19 : -2147483648 ≤ v19 ∧ v19 < 2147483648), (-2147483648 ≤ l1 ∧ l1 < 2147483648) ∧ (∀ (c26 : v19 ≤ l1), (∀ (c39 : l1 ≤ v19), ∀ (v51 : Int) (e51 : v51 = gt (vv Θ l4) 3) (r51 : -1 ≤ v51), (-1 ≤ l2) ∧ (∀ (c58 : v51 = l2), (g ≤ G) ∧ (-1 ≤ l4) ∧ Q l4 Θ) ∧ (∀ (c58 : ¬ v51 = l2), (∀ (c62 : l2 < 0), W2_J30_find_77 ω d G l1 l2 l3 v51 v5 v12 (g) Θ Q) ∧ (∀ (c62 : 0 ≤ l2), (1 ≤ d) ∧ (((kd Θ l2 = 2) ∧ ∃ G68 : Nat, (g + G68 ≤ G) ∧ w2_J2_equals ω (d - 1) G68 l2 v51 Θ (fun x68 Θ68 => ∀ (L68 : Le Θ Θ68) (r68 : x68 = 0 ∨ x68 = 1), (∀ (c71 : x68 = 0), W2_J30_find_77 ω d G l1 l2 l3 v51 v5 v12 (g + G68) Θ68 Q) ∧ (∀ (c71 : ¬ x68 = 0), (g + G68 ≤ G) ∧ (-1 ≤ l4) ∧ Q l4 Θ68))) ∨ ((kd Θ l2 = 26) ∧ ∃ G68 : Nat, (g + G68 ≤ G) ∧ w2_J33_equals ω (d - 1) G68 l2 v51 Θ (fun x68 Θ68 => ∀ (L68 : Le Θ Θ68) (r68 : x68 = 0 ∨ x68 = 1), (∀ (c71 : x68 = 0), W2_J30_find_77 ω d G l1 l2 l3 v51 v5 v12 (g + G68) Θ68 Q) ∧ (∀ (c71 : ¬ x68 = 0), (g + G68 ≤ G) ∧ (-1 ≤ l4) ∧ Q l4 Θ68))) ∨ ((kd Θ l2 = 35) ∧ ∃ G68 : Nat, (g + G68 ≤ G) ∧ w2_J33_equals ω (d - 1) G68 l2 v51 Θ (fun x68 Θ68 => ∀ (L68 : Le Θ Θ68) (r68 : x68 = 0 ∨ x68 = 1), (∀ (c71 : x68 = 0), W2_J30_find_77 ω d G l1 l2 l3 v51 v5 v12 (g + G68) Θ68 Q) ∧ (∀ (c71 : ¬ x68 = 0), (g + G68 ≤ G) ∧ (-1 ≤ l4) ∧ Q l4 Θ68))) ∨ ((kd Θ l2 = 65) ∧ ∃ G68 : Nat, (g + G68 ≤ G) ∧ w2_J33_equals ω (d - 1) G68 l2 v51 Θ (fun x68 Θ68 => ∀ (L68 : Le Θ Θ68) (r68 : x68 = 0 ∨ x68 = 1), (∀ (c71 : x68 = 0), W2_J30_find_77 ω d G l1 l2 l3 v51 v5 v12 (g + G68) Θ68 Q) ∧ (∀ (c71 : ¬ x68 = 0), (g + G68 ≤ G) ∧ (-1 ≤ l4) ∧ Q l4 Θ68))))))) ∧ (∀ (c39 : v19 < l1), W2_J30_find_165 ω d G l1 l2 l3 v12 (g) Θ Q)) ∧ (∀ (c26 : l1 < v19), W2_J30_find_165 ω d G l1 l2 l3 v5 (g) Θ Q)) : W2_J30_find_3 ω d G l1 l2 l3 l4 g Θ Q := sorry
set_option maxHeartbeats 4000000 in
theorem s2_J30_find_77 {ω : AO} {d G : Nat} {l1 l2 l3 l7 l8 l9 : Int} {g : Nat} {Θ : Th} {Q : Int → Th → Prop} (hB : (∀ (c79 : 0 ≤ l8), (∀ (c91 : 0 ≤ l9), (∀ (c102 : 0 ≤ l3), W2_J30_find_114 ω d G l1 l2 l3 l7 l8 l9 (g) Θ Q) ∧ (∀ (c102 : l3 < 0), (1 ≤ d) ∧ ∃ G106 : Nat, (g + G106 ≤ G) ∧ w2_J9_comparableClassFor ω (d - 1) G106 l2 Θ (fun x106 Θ106 => ∀ (L106 : Le Θ Θ106) (r106 : -1 ≤ x106), (∀ (c111 : x106 < 0), W2_J30_find_144 ω d G l1 l2 x106 l8 l9 (g + G106) Θ106 Q) ∧ (∀ (c111 : 0 ≤ x106), W2_J30_find_114 ω d G l1 l2 x106 l7 l8 l9 (g + G106) Θ106 Q)))) ∧ (∀ (c91 : l9 < 0), W2_J30_find_165 ω d G l1 l2 l3 l8 (g) Θ Q)) ∧ (∀ (c79 : l8 < 0), W2_J30_find_165 ω d G l1 l2 l3 l9 (g) Θ Q)) : W2_J30_find_77 ω d G l1 l2 l3 l7 l8 l9 g Θ Q := sorry
set_option maxHeartbeats 4000000 in
theorem s2_J30_find_165 {ω : AO} {d G : Nat} {l1 l2 l3 l4 : Int} {g : Nat} {Θ : Th} {Q : Int → Th → Prop} (hB : (∀ (c167 : 0 ≤ l4), W2_J30_find_3 ω d G l1 l2 l3 l4 (g) Θ Q) ∧ (∀ (c167 : l4 < 0), (g ≤ G) ∧ (-1 ≤ (-1)) ∧ Q (-1) Θ)) : W2_J30_find_165 ω d G l1 l2 l3 l4 g Θ Q := sorry
set_option maxHeartbeats 4000000 in
theorem s2_J30_find_114 {ω : AO} {d G : Nat} {l1 l2 l3 l7 l8 l9 : Int} {g : Nat} {Θ : Th} {Q : Int → Th → Prop} (hB : (1 ≤ d) ∧ ∃ G118 : Nat, (g + G118 ≤ G) ∧ w2_J9_compareComparables ω (d - 1) G118 l3 l2 l7 Θ (fun x118 Θ118 => ∀ (L118 : Le Θ Θ118) (r118 : -2147483648 ≤ x118 ∧ x118 < 2147483648), (∀ (c124 : x118 = 0), W2_J30_find_144 ω d G l1 l2 l3 l8 l9 (g + G118) Θ118 Q) ∧ (∀ (c124 : ¬ x118 = 0), (∀ (c129 : 0 ≤ x118), W2_J30_find_139 ω d G l1 l2 l3 l9 (g + G118) Θ118 Q) ∧ (∀ (c129 : x118 < 0), W2_J30_find_139 ω d G l1 l2 l3 l8 (g + G118) Θ118 Q)))) : W2_J30_find_114 ω d G l1 l2 l3 l7 l8 l9 g Θ Q := sorry
set_option maxHeartbeats 4000000 in
theorem s2_J30_find_144 {ω : AO} {d G : Nat} {l1 l2 l3 l8 l9 : Int} {g : Nat} {Θ : Th} {Q : Int → Th → Prop} (hB : (1 ≤ d) ∧ (kd Θ l9 = 13) ∧ ∃ G149 : Nat, (g + G149 ≤ G) ∧ w2_J30_find ω (d - 1) G149 l9 l1 l2 l3 Θ (fun x149 Θ149 => ∀ (L149 : Le Θ Θ149) (r149 : -1 ≤ x149), (∀ (c155 : x149 < 0), W2_J30_find_165 ω d G l1 l2 l3 l8 (g + G149) Θ149 Q) ∧ (∀ (c155 : 0 ≤ x149), (g + G149 ≤ G) ∧ (-1 ≤ x149) ∧ Q x149 Θ149))) : W2_J30_find_144 ω d G l1 l2 l3 l8 l9 g Θ Q := sorry
set_option maxHeartbeats 4000000 in
theorem s2_J30_find_139 {ω : AO} {d G : Nat} {l1 l2 l3 s0 : Int} {g : Nat} {Θ : Th} {Q : Int → Th → Prop} (hB : W2_J30_find_165 ω d G l1 l2 l3 s0 (g) Θ Q) : W2_J30_find_139 ω d G l1 l2 l3 s0 g Θ Q := sorry
def W2_J30_getTreeNode_15 (ω : AO) (d G : Nat) (l1 l2 s0 : Int) (g : Nat) (Θ : Th) (Q : Int → Th → Prop) : Prop := Hid (SJ2 ω yJ30_getTreeNode cJ30_getTreeNode 3 (some (.object "java/util/HashMap$TreeNode")) d G (fun Sz Θz => (eA Sz (q2 ω Θz Q))) 15 [vN, (0, l1), (2, l2)] [(2, s0)] g Θ)
set_option maxHeartbeats 4000000 in
theorem s2_J30_getTreeNode {ω : AO} {d G : Nat} {l0 l1 l2 : Int} {Θ : Th} {Q : Int → Th → Prop} (hB : (kd Θ l0 = 13) ∧ ∀ (v1 : Int) (e1 : v1 = gt (vv Θ l0) 6) (r1 : -1 ≤ v1), (∀ (c4 : v1 < 0), W2_J30_getTreeNode_15 ω d G l1 l2 l0 (0) Θ Q) ∧ (∀ (c4 : 0 ≤ v1), (1 ≤ d) ∧ ∃ G8 : Nat, (0 + G8 ≤ G) ∧ w2_J30_root ω (d - 1) G8 l0 Θ (fun x8 Θ8 => ∀ (L8 : Le Θ Θ8) (r8 : -1 ≤ x8), W2_J30_getTreeNode_15 ω d G l1 l2 x8 (0 + G8) Θ8 Q))) : w2_J30_getTreeNode ω d G l0 l1 l2 Θ Q := sorry
set_option maxHeartbeats 4000000 in
theorem s2_J30_getTreeNode_15 {ω : AO} {d G : Nat} {l1 l2 s0 : Int} {g : Nat} {Θ : Th} {Q : Int → Th → Prop} (hB : (1 ≤ d) ∧ (kd Θ s0 = 13) ∧ ∃ G18 : Nat, (g + G18 ≤ G) ∧ w2_J30_find ω (d - 1) G18 s0 l1 l2 (-1) Θ (fun x18 Θ18 => ∀ (L18 : Le Θ Θ18) (r18 : -1 ≤ x18), (g + G18 ≤ G) ∧ (-1 ≤ x18) ∧ Q x18 Θ18)) : W2_J30_getTreeNode_15 ω d G l1 l2 s0 g Θ Q := sorry
def W2_J30_rotateLeft_34 (ω : AO) (d G : Nat) (l0 l1 l2 : Int) (g : Nat) (Θ : Th) (Q : Int → Th → Prop) : Prop := Hid (SJ2 ω yJ30_rotateLeft cJ30_rotateLeft 5 (some (.object "java/util/HashMap$TreeNode")) d G (fun Sz Θz => (eA Sz (q2 ω Θz Q))) 34 [(2, l0), (2, l1), (2, l2), vN, vN] [] g Θ)
def W2_J30_rotateLeft_79 (ω : AO) (d G : Nat) (l0 l1 l2 : Int) (g : Nat) (Θ : Th) (Q : Int → Th → Prop) : Prop := Hid (SJ2 ω yJ30_rotateLeft cJ30_rotateLeft 5 (some (.object "java/util/HashMap$TreeNode")) d G (fun Sz Θz => (eA Sz (q2 ω Θz Q))) 79 [(2, l0), (2, l1), (2, l2), vN, vN] [] g Θ)
set_option maxHeartbeats 4000000 in
theorem s2_J30_rotateLeft {ω : AO} {d G : Nat} {l0 l1 : Int} {Θ : Th} {Q : Int → Th → Prop} (hB : (∀ (c1 : l1 < 0), (-1 ≤ l0) ∧ Q l0 Θ) ∧ (∀ (c1 : 0 ≤ l1), (kd Θ l1 = 13) ∧ ∀ (v5 : Int) (e5 : v5 = gt (vv Θ l1) 8) (r5 : -1 ≤ v5), (∀ (c10 : v5 < 0), (-1 ≤ l0) ∧ Q l0 Θ) ∧ (∀ (c10 : 0 ≤ v5), (kd Θ v5 = 13) ∧ ∀ (v15 : Int) (e15 : v15 = gt (vv Θ v5) 7) (r15 : -1 ≤ v15), (¬ fz Θ l1) ∧ ∀ (Θ19 : Th) (t19 : Θ19 = pf Θ l1 8 v15), (∀ (c25 : v15 < 0), W2_J30_rotateLeft_34 ω d G l0 l1 v5 (0) Θ19 Q) ∧ (∀ (c25 : 0 ≤ v15), (kd Θ19 v15 = 13) ∧ (¬ fz Θ19 v15) ∧ (-1 ≤ l1) ∧ ∀ (Θ31 : Th) (t31 : Θ31 = pf Θ19 v15 6 l1), W2_J30_rotateLeft_34 ω d G l0 l1 v5 (0) Θ31 Q)))) : w2_J30_rotateLeft ω d G l0 l1 Θ Q := sorry
set_option maxHeartbeats 4000000 in
theorem s2_J30_rotateLeft_34 {ω : AO} {d G : Nat} {l0 l1 l2 : Int} {g : Nat} {Θ : Th} {Q : Int → Th → Prop} (hB : (kd Θ l1 = 13) ∧ ∀ (v36 : Int) (e36 : v36 = gt (vv Θ l1) 6) (r36 : -1 ≤ v36), (kd Θ l2 = 13) ∧ (¬ fz Θ l2) ∧ ∀ (Θ40 : Th) (t40 : Θ40 = pf Θ l2 6 v36), (∀ (c45 : 0 ≤ v36), (kd Θ40 v36 = 13) ∧ ∀ (v59 : Int) (e59 : v59 = gt (vv Θ40 v36) 7) (r59 : -1 ≤ v59), (-1 ≤ l1) ∧ (∀ (c63 : ¬ v59 = l1), (¬ fz Θ40 v36) ∧ (-1 ≤ l2) ∧ ∀ (Θ76 : Th) (t76 : Θ76 = pf Θ40 v36 8 l2), W2_J30_rotateLeft_79 ω d G l0 l1 l2 (g) Θ76 Q) ∧ (∀ (c63 : v59 = l1), (¬ fz Θ40 v36) ∧ (-1 ≤ l2) ∧ ∀ (Θ68 : Th) (t68 : Θ68 = pf Θ40 v36 7 l2), W2_J30_rotateLeft_79 ω d G l0 l1 l2 (g) Θ68 Q)) ∧ (∀ (c45 : v36 < 0), (¬ fz Θ40 l2) ∧ ∀ (Θ52 : Th) (t52 : Θ52 = pf Θ40 l2 10 0), W2_J30_rotateLeft_79 ω d G l2 l1 l2 (g) Θ52 Q)) : W2_J30_rotateLeft_34 ω d G l0 l1 l2 g Θ Q := sorry
set_option maxHeartbeats 4000000 in
theorem s2_J30_rotateLeft_79 {ω : AO} {d G : Nat} {l0 l1 l2 : Int} {g : Nat} {Θ : Th} {Q : Int → Th → Prop} (hB : (kd Θ l2 = 13) ∧ (¬ fz Θ l2) ∧ (-1 ≤ l1) ∧ ∀ (Θ81 : Th) (t81 : Θ81 = pf Θ l2 7 l1), (kd Θ81 l1 = 13) ∧ (¬ fz Θ81 l1) ∧ (-1 ≤ l2) ∧ ∀ (Θ86 : Th) (t86 : Θ86 = pf Θ81 l1 6 l2), (g ≤ G) ∧ (-1 ≤ l0) ∧ Q l0 Θ86) : W2_J30_rotateLeft_79 ω d G l0 l1 l2 g Θ Q := sorry
def W2_J30_rotateRight_34 (ω : AO) (d G : Nat) (l0 l1 l2 : Int) (g : Nat) (Θ : Th) (Q : Int → Th → Prop) : Prop := Hid (SJ2 ω yJ30_rotateRight cJ30_rotateRight 5 (some (.object "java/util/HashMap$TreeNode")) d G (fun Sz Θz => (eA Sz (q2 ω Θz Q))) 34 [(2, l0), (2, l1), (2, l2), vN, vN] [] g Θ)
def W2_J30_rotateRight_79 (ω : AO) (d G : Nat) (l0 l1 l2 : Int) (g : Nat) (Θ : Th) (Q : Int → Th → Prop) : Prop := Hid (SJ2 ω yJ30_rotateRight cJ30_rotateRight 5 (some (.object "java/util/HashMap$TreeNode")) d G (fun Sz Θz => (eA Sz (q2 ω Θz Q))) 79 [(2, l0), (2, l1), (2, l2), vN, vN] [] g Θ)
set_option maxHeartbeats 4000000 in
theorem s2_J30_rotateRight {ω : AO} {d G : Nat} {l0 l1 : Int} {Θ : Th} {Q : Int → Th → Prop} (hB : (∀ (c1 : l1 < 0), (-1 ≤ l0) ∧ Q l0 Θ) ∧ (∀ (c1 : 0 ≤ l1), (kd Θ l1 = 13) ∧ ∀ (v5 : Int) (e5 : v5 = gt (vv Θ l1) 7) (r5 : -1 ≤ v5), (∀ (c10 : v5 < 0), (-1 ≤ l0) ∧ Q l0 Θ) ∧ (∀ (c10 : 0 ≤ v5), (kd Θ v5 = 13) ∧ ∀ (v15 : Int) (e15 : v15 = gt (vv Θ v5) 8) (r15 : -1 ≤ v15), (¬ fz Θ l1) ∧ ∀ (Θ19 : Th) (t19 : Θ19 = pf Θ l1 7 v15), (∀ (c25 : v15 < 0), W2_J30_rotateRight_34 ω d G l0 l1 v5 (0) Θ19 Q) ∧ (∀ (c25 : 0 ≤ v15), (kd Θ19 v15 = 13) ∧ (¬ fz Θ19 v15) ∧ (-1 ≤ l1) ∧ ∀ (Θ31 : Th) (t31 : Θ31 = pf Θ19 v15 6 l1), W2_J30_rotateRight_34 ω d G l0 l1 v5 (0) Θ31 Q)))) : w2_J30_rotateRight ω d G l0 l1 Θ Q := sorry
set_option maxHeartbeats 4000000 in
theorem s2_J30_rotateRight_34 {ω : AO} {d G : Nat} {l0 l1 l2 : Int} {g : Nat} {Θ : Th} {Q : Int → Th → Prop} (hB : (kd Θ l1 = 13) ∧ ∀ (v36 : Int) (e36 : v36 = gt (vv Θ l1) 6) (r36 : -1 ≤ v36), (kd Θ l2 = 13) ∧ (¬ fz Θ l2) ∧ ∀ (Θ40 : Th) (t40 : Θ40 = pf Θ l2 6 v36), (∀ (c45 : 0 ≤ v36), (kd Θ40 v36 = 13) ∧ ∀ (v59 : Int) (e59 : v59 = gt (vv Θ40 v36) 8) (r59 : -1 ≤ v59), (-1 ≤ l1) ∧ (∀ (c63 : ¬ v59 = l1), (¬ fz Θ40 v36) ∧ (-1 ≤ l2) ∧ ∀ (Θ76 : Th) (t76 : Θ76 = pf Θ40 v36 7 l2), W2_J30_rotateRight_79 ω d G l0 l1 l2 (g) Θ76 Q) ∧ (∀ (c63 : v59 = l1), (¬ fz Θ40 v36) ∧ (-1 ≤ l2) ∧ ∀ (Θ68 : Th) (t68 : Θ68 = pf Θ40 v36 8 l2), W2_J30_rotateRight_79 ω d G l0 l1 l2 (g) Θ68 Q)) ∧ (∀ (c45 : v36 < 0), (¬ fz Θ40 l2) ∧ ∀ (Θ52 : Th) (t52 : Θ52 = pf Θ40 l2 10 0), W2_J30_rotateRight_79 ω d G l2 l1 l2 (g) Θ52 Q)) : W2_J30_rotateRight_34 ω d G l0 l1 l2 g Θ Q := sorry
set_option maxHeartbeats 4000000 in
theorem s2_J30_rotateRight_79 {ω : AO} {d G : Nat} {l0 l1 l2 : Int} {g : Nat} {Θ : Th} {Q : Int → Th → Prop} (hB : (kd Θ l2 = 13) ∧ (¬ fz Θ l2) ∧ (-1 ≤ l1) ∧ ∀ (Θ81 : Th) (t81 : Θ81 = pf Θ l2 8 l1), (kd Θ81 l1 = 13) ∧ (¬ fz Θ81 l1) ∧ (-1 ≤ l2) ∧ ∀ (Θ86 : Th) (t86 : Θ86 = pf Θ81 l1 6 l2), (g ≤ G) ∧ (-1 ≤ l0) ∧ Q l0 Θ86) : W2_J30_rotateRight_79 ω d G l0 l1 l2 g Θ Q := sorry
def W2_J30_balanceInsertion_5 (ω : AO) (d G : Nat) (l0 l1 : Int) (g : Nat) (Θ : Th) (Q : Int → Th → Prop) : Prop := Hid (SJ2 ω yJ30_balanceInsertion cJ30_balanceInsertion 6 (some (.object "java/util/HashMap$TreeNode")) d G (fun Sz Θz => (eA Sz (q2 ω Θz Q))) 5 [(2, l0), (2, l1), vN, vN, vN, vN] [] g Θ)
def W2_J30_balanceInsertion_184 (ω : AO) (d G : Nat) (l0 l1 l2 l3 : Int) (g : Nat) (Θ : Th) (Q : Int → Th → Prop) : Prop := Hid (SJ2 ω yJ30_balanceInsertion cJ30_balanceInsertion 6 (some (.object "java/util/HashMap$TreeNode")) d G (fun Sz Θz => (eA Sz (q2 ω Θz Q))) 184 [(2, l0), (2, l1), (2, l2), (2, l3), vN, vN] [] g Θ)
def W2_J30_balanceInsertion_89 (ω : AO) (d G : Nat) (l0 l1 l2 l3 : Int) (g : Nat) (Θ : Th) (Q : Int → Th → Prop) : Prop := Hid (SJ2 ω yJ30_balanceInsertion cJ30_balanceInsertion 6 (some (.object "java/util/HashMap$TreeNode")) d G (fun Sz Θz => (eA Sz (q2 ω Θz Q))) 89 [(2, l0), (2, l1), (2, l2), (2, l3), vN, vN] [] g Θ)
def W2_J30_balanceInsertion_218 (ω : AO) (d G : Nat) (l0 l1 l2 l3 : Int) (g : Nat) (Θ : Th) (Q : Int → Th → Prop) : Prop := Hid (SJ2 ω yJ30_balanceInsertion cJ30_balanceInsertion 6 (some (.object "java/util/HashMap$TreeNode")) d G (fun Sz Θz => (eA Sz (q2 ω Θz Q))) 218 [(2, l0), (2, l1), (2, l2), (2, l3), vN, vN] [] g Θ)
def W2_J30_balanceInsertion_217 (ω : AO) (d G : Nat) (l0 l1 l2 s0 : Int) (g : Nat) (Θ : Th) (Q : Int → Th → Prop) : Prop := Hid (SJ2 ω yJ30_balanceInsertion cJ30_balanceInsertion 6 (some (.object "java/util/HashMap$TreeNode")) d G (fun Sz Θz => (eA Sz (q2 ω Θz Q))) 217 [(2, l0), (2, l1), (2, l2), vN, vN, vN] [(2, s0)] g Θ)
def W2_J30_balanceInsertion_123 (ω : AO) (d G : Nat) (l0 l1 l2 l3 : Int) (g : Nat) (Θ : Th) (Q : Int → Th → Prop) : Prop := Hid (SJ2 ω yJ30_balanceInsertion cJ30_balanceInsertion 6 (some (.object "java/util/HashMap$TreeNode")) d G (fun Sz Θz => (eA Sz (q2 ω Θz Q))) 123 [(2, l0), (2, l1), (2, l2), (2, l3), vN, vN] [] g Θ)
def W2_J30_balanceInsertion_122 (ω : AO) (d G : Nat) (l0 l1 l2 s0 : Int) (g : Nat) (Θ : Th) (Q : Int → Th → Prop) : Prop := Hid (SJ2 ω yJ30_balanceInsertion cJ30_balanceInsertion 6 (some (.object "java/util/HashMap$TreeNode")) d G (fun Sz Θz => (eA Sz (q2 ω Θz Q))) 122 [(2, l0), (2, l1), (2, l2), vN, vN, vN] [(2, s0)] g Θ)
set_option maxHeartbeats 4000000 in
theorem s2_J30_balanceInsertion {ω : AO} {d G : Nat} {l0 l1 : Int} {Θ : Th} {Q : Int → Th → Prop} (hB : (kd Θ l1 = 13) ∧ (¬ fz Θ l1) ∧ ∀ (Θ2 : Th) (t2 : Θ2 = pf Θ l1 10 1), W2_J30_balanceInsertion_5 ω d G l0 l1 (0) Θ2 Q) : w2_J30_balanceInsertion ω d G l0 l1 Θ Q := sorry
set_option maxHeartbeats 4000000 in
theorem s2_J30_balanceInsertion_5 {ω : AO} {d G : Nat} {l0 l1 : Int} {g : Nat} {Θ : Th} {Q : Int → Th → Prop} (hB : (kd Θ l1 = 13) ∧ ∀ (v6 : Int) (e6 : v6 = gt (vv Θ l1) 6) (r6 : -1 ≤ v6), (∀ (c11 : 0 ≤ v6), (kd Θ v6 = 13) ∧ ∀ (v22 : Int) (e22 : v22 = gt (vv Θ v6) 10) (r22 : 0 ≤ v22 ∧ v22 < 2), (∀ (c25 : v22 = 0), (g ≤ G) ∧ (-1 ≤ l0) ∧ Q l0 Θ) ∧ (∀ (c25 : ¬ v22 = 0), ∀ (v29 : Int) (e29 : v29 = gt (vv Θ v6) 6) (r29 : -1 ≤ v29), (∀ (c34 : 0 ≤ v29), (kd Θ v29 = 13) ∧ ∀ (v41 : Int) (e41 : v41 = gt (vv Θ v29) 7) (r41 : -1 ≤ v41), (∀ (c47 : ¬ v6 = v41), (∀ (c152 : v41 < 0), W2_J30_balanceInsertion_184 ω d G l0 l1 v6 v29 (g) Θ Q) ∧ (∀ (c152 : 0 ≤ v41), (kd Θ v41 = 13) ∧ ∀ (v157 : Int) (e157 : v157 = gt (vv Θ v41) 10) (r157 : 0 ≤ v157 ∧ v157 < 2), (∀ (c160 : v157 = 0), W2_J30_balanceInsertion_184 ω d G l0 l1 v6 v29 (g) Θ Q) ∧ (∀ (c160 : ¬ v157 = 0), (¬ fz Θ v41) ∧ ∀ (Θ166 : Th) (t166 : Θ166 = pf Θ v41 10 0), (¬ fz Θ166 v6) ∧ ∀ (Θ171 : Th) (t171 : Θ171 = pf Θ166 v6 10 0), (¬ fz Θ171 v29) ∧ ∀ (Θ176 : Th) (t176 : Θ176 = pf Θ171 v29 10 1), W2_J30_balanceInsertion_5 ω d G l0 v29 (g) Θ176 Q))) ∧ (∀ (c47 : v6 = v41), ∀ (v51 : Int) (e51 : v51 = gt (vv Θ v29) 8) (r51 : -1 ≤ v51), (∀ (c57 : v51 < 0), W2_J30_balanceInsertion_89 ω d G l0 l1 v6 v29 (g) Θ Q) ∧ (∀ (c57 : 0 ≤ v51), (kd Θ v51 = 13) ∧ ∀ (v62 : Int) (e62 : v62 = gt (vv Θ v51) 10) (r62 : 0 ≤ v62 ∧ v62 < 2), (∀ (c65 : v62 = 0), W2_J30_balanceInsertion_89 ω d G l0 l1 v6 v29 (g) Θ Q) ∧ (∀ (c65 : ¬ v62 = 0), (¬ fz Θ v51) ∧ ∀ (Θ71 : Th) (t71 : Θ71 = pf Θ v51 10 0), (¬ fz Θ71 v6) ∧ ∀ (Θ76 : Th) (t76 : Θ76 = pf Θ71 v6 10 0), (¬ fz Θ76 v29) ∧ ∀ (Θ81 : Th) (t81 : Θ81 = pf Θ76 v29 10 1), W2_J30_balanceInsertion_5 ω d G l0 v29 (g) Θ81 Q)))) ∧ (∀ (c34 : v29 < 0), (g ≤ G) ∧ (-1 ≤ l0) ∧ Q l0 Θ))) ∧ (∀ (c11 : v6 < 0), (¬ fz Θ l1) ∧ ∀ (Θ16 : Th) (t16 : Θ16 = pf Θ l1 10 0), (g ≤ G) ∧ (-1 ≤ l1) ∧ Q l1 Θ16)) : W2_J30_balanceInsertion_5 ω d G l0 l1 g Θ Q := sorry
set_option maxHeartbeats 4000000 in
theorem s2_J30_balanceInsertion_184 {ω : AO} {d G : Nat} {l0 l1 l2 l3 : Int} {g : Nat} {Θ : Th} {Q : Int → Th → Prop} (hB : (kd Θ l2 = 13) ∧ ∀ (v186 : Int) (e186 : v186 = gt (vv Θ l2) 7) (r186 : -1 ≤ v186), (-1 ≤ l1) ∧ (∀ (c189 : ¬ l1 = v186), W2_J30_balanceInsertion_218 ω d G l0 l1 l2 l3 (g) Θ Q) ∧ (∀ (c189 : l1 = v186), (1 ≤ d) ∧ ∃ G196 : Nat, (g + G196 ≤ G) ∧ w2_J30_rotateRight ω (d - 1) G196 l0 l2 Θ (fun x196 Θ196 => ∀ (L196 : Le Θ Θ196) (r196 : -1 ≤ x196), ∀ (v201 : Int) (e201 : v201 = gt (vv Θ196 l2) 6) (r201 : -1 ≤ v201), (∀ (c206 : 0 ≤ v201), (kd Θ196 v201 = 13) ∧ ∀ (v214 : Int) (e214 : v214 = gt (vv Θ196 v201) 6) (r214 : -1 ≤ v214), W2_J30_balanceInsertion_217 ω d G x196 l2 v201 v214 (g + G196) Θ196 Q) ∧ (∀ (c206 : v201 < 0), W2_J30_balanceInsertion_217 ω d G x196 l2 v201 ((-1)) (g + G196) Θ196 Q)))) : W2_J30_balanceInsertion_184 ω d G l0 l1 l2 l3 g Θ Q := sorry
set_option maxHeartbeats 4000000 in
theorem s2_J30_balanceInsertion_89 {ω : AO} {d G : Nat} {l0 l1 l2 l3 : Int} {g : Nat} {Θ : Th} {Q : Int → Th → Prop} (hB : (kd Θ l2 = 13) ∧ ∀ (v91 : Int) (e91 : v91 = gt (vv Θ l2) 8) (r91 : -1 ≤ v91), (-1 ≤ l1) ∧ (∀ (c94 : ¬ l1 = v91), W2_J30_balanceInsertion_123 ω d G l0 l1 l2 l3 (g) Θ Q) ∧ (∀ (c94 : l1 = v91), (1 ≤ d) ∧ ∃ G101 : Nat, (g + G101 ≤ G) ∧ w2_J30_rotateLeft ω (d - 1) G101 l0 l2 Θ (fun x101 Θ101 => ∀ (L101 : Le Θ Θ101) (r101 : -1 ≤ x101), ∀ (v106 : Int) (e106 : v106 = gt (vv Θ101 l2) 6) (r106 : -1 ≤ v106), (∀ (c111 : 0 ≤ v106), (kd Θ101 v106 = 13) ∧ ∀ (v119 : Int) (e119 : v119 = gt (vv Θ101 v106) 6) (r119 : -1 ≤ v119), W2_J30_balanceInsertion_122 ω d G x101 l2 v106 v119 (g + G101) Θ101 Q) ∧ (∀ (c111 : v106 < 0), W2_J30_balanceInsertion_122 ω d G x101 l2 v106 ((-1)) (g + G101) Θ101 Q)))) : W2_J30_balanceInsertion_89 ω d G l0 l1 l2 l3 g Θ Q := sorry
set_option maxHeartbeats 4000000 in
theorem s2_J30_balanceInsertion_218 {ω : AO} {d G : Nat} {l0 l1 l2 l3 : Int} {g : Nat} {Θ : Th} {Q : Int → Th → Prop} (hB : (∀ (c219 : l2 < 0), W2_J30_balanceInsertion_5 ω d G l0 l1 (g) Θ Q) ∧ (∀ (c219 : 0 ≤ l2), (kd Θ l2 = 13) ∧ (¬ fz Θ l2) ∧ ∀ (Θ224 : Th) (t224 : Θ224 = pf Θ l2 10 0), (∀ (c228 : l3 < 0), W2_J30_balanceInsertion_5 ω d G l0 l1 (g) Θ224 Q) ∧ (∀ (c228 : 0 ≤ l3), (kd Θ224 l3 = 13) ∧ (¬ fz Θ224 l3) ∧ ∀ (Θ233 : Th) (t233 : Θ233 = pf Θ224 l3 10 1), (1 ≤ d) ∧ ∃ G238 : Nat, (g + G238 ≤ G) ∧ w2_J30_rotateLeft ω (d - 1) G238 l0 l3 Θ233 (fun x238 Θ238 => ∀ (L238 : Le Θ233 Θ238) (r238 : -1 ≤ x238), W2_J30_balanceInsertion_5 ω d G x238 l1 (g + G238) Θ238 Q)))) : W2_J30_balanceInsertion_218 ω d G l0 l1 l2 l3 g Θ Q := sorry
set_option maxHeartbeats 4000000 in
theorem s2_J30_balanceInsertion_217 {ω : AO} {d G : Nat} {l0 l1 l2 s0 : Int} {g : Nat} {Θ : Th} {Q : Int → Th → Prop} (hB : W2_J30_balanceInsertion_218 ω d G l0 l1 l2 s0 (g) Θ Q) : W2_J30_balanceInsertion_217 ω d G l0 l1 l2 s0 g Θ Q := sorry
set_option maxHeartbeats 4000000 in
theorem s2_J30_balanceInsertion_123 {ω : AO} {d G : Nat} {l0 l1 l2 l3 : Int} {g : Nat} {Θ : Th} {Q : Int → Th → Prop} (hB : (∀ (c124 : l2 < 0), W2_J30_balanceInsertion_5 ω d G l0 l1 (g) Θ Q) ∧ (∀ (c124 : 0 ≤ l2), (kd Θ l2 = 13) ∧ (¬ fz Θ l2) ∧ ∀ (Θ129 : Th) (t129 : Θ129 = pf Θ l2 10 0), (∀ (c133 : l3 < 0), W2_J30_balanceInsertion_5 ω d G l0 l1 (g) Θ129 Q) ∧ (∀ (c133 : 0 ≤ l3), (kd Θ129 l3 = 13) ∧ (¬ fz Θ129 l3) ∧ ∀ (Θ138 : Th) (t138 : Θ138 = pf Θ129 l3 10 1), (1 ≤ d) ∧ ∃ G143 : Nat, (g + G143 ≤ G) ∧ w2_J30_rotateRight ω (d - 1) G143 l0 l3 Θ138 (fun x143 Θ143 => ∀ (L143 : Le Θ138 Θ143) (r143 : -1 ≤ x143), W2_J30_balanceInsertion_5 ω d G x143 l1 (g + G143) Θ143 Q)))) : W2_J30_balanceInsertion_123 ω d G l0 l1 l2 l3 g Θ Q := sorry
set_option maxHeartbeats 4000000 in
theorem s2_J30_balanceInsertion_122 {ω : AO} {d G : Nat} {l0 l1 l2 s0 : Int} {g : Nat} {Θ : Th} {Q : Int → Th → Prop} (hB : W2_J30_balanceInsertion_123 ω d G l0 l1 l2 s0 (g) Θ Q) : W2_J30_balanceInsertion_122 ω d G l0 l1 l2 s0 g Θ Q := sorry
def W2_J30_moveRootToFront_102 (ω : AO) (d G : Nat) (l1 : Int) (g : Nat) (Θ : Th) (Q : Th → Prop) : Prop := Hid (SJ2 ω yJ30_moveRootToFront cJ30_moveRootToFront 7 none d G (fun Sz Θz => (eU Sz (q2U ω Θz Q))) 102 [vN, (2, l1), vN, vN, vN, vN, vN] [] g Θ)
def W2_J30_moveRootToFront_68 (ω : AO) (d G : Nat) (l1 l4 l5 l6 : Int) (g : Nat) (Θ : Th) (Q : Th → Prop) : Prop := Hid (SJ2 ω yJ30_moveRootToFront cJ30_moveRootToFront 7 none d G (fun Sz Θz => (eU Sz (q2U ω Θz Q))) 68 [vN, (2, l1), vN, vN, (2, l4), (2, l5), (2, l6)] [] g Θ)
def W2_J30_moveRootToFront_80 (ω : AO) (d G : Nat) (l1 l4 : Int) (g : Nat) (Θ : Th) (Q : Th → Prop) : Prop := Hid (SJ2 ω yJ30_moveRootToFront cJ30_moveRootToFront 7 none d G (fun Sz Θz => (eU Sz (q2U ω Θz Q))) 80 [vN, (2, l1), vN, vN, (2, l4), vN, vN] [] g Θ)
def W2_J30_moveRootToFront_91 (ω : AO) (d G : Nat) (l1 l4 : Int) (g : Nat) (Θ : Th) (Q : Th → Prop) : Prop := Hid (SJ2 ω yJ30_moveRootToFront cJ30_moveRootToFront 7 none d G (fun Sz Θz => (eU Sz (q2U ω Θz Q))) 91 [vN, (2, l1), vN, vN, (2, l4), vN, vN] [] g Θ)
set_option maxHeartbeats 4000000 in
theorem s2_J30_moveRootToFront {ω : AO} {d G : Nat} {l0 l1 : Int} {Θ : Th} {Q : Th → Prop} (hB : (∀ (c1 : l1 < 0), Q Θ) ∧ (∀ (c1 : 0 ≤ l1), (∀ (c5 : l0 < 0), Q Θ) ∧ (∀ (c5 : 0 ≤ l0), (kd Θ l0 = 107) ∧ ∀ (v9 : Int) (e9 : v9 = len (vv Θ l0)) (r9 : 0 ≤ v9 ∧ v9 < 2147483648), (∀ (c12 : v9 ≤ 0), Q Θ) ∧ (∀ (c12 : 0 < v9), (kd Θ l1 = 13) ∧ ∀ (v19 : Int) (e19 : v19 = gt (vv Θ l1) 2) (r19 : -2147483648 ≤ v19 ∧ v19 < 2147483648), (0 ≤ (andI (v9 - 1) v19) ∧ (andI (v9 - 1) v19) < len (vv Θ l0)) ∧ ∀ (v26 : Int) (e26 : v26 = gt (vv Θ l0) (andI (v9 - 1) v19)) (r26 : -1 ≤ v26), (v26 < 0 ∨ kd Θ v26 ∈ [13]) ∧ (-1 ≤ l1) ∧ (-1 ≤ v26) ∧ (∀ (c35 : l1 = v26), W2_J30_moveRootToFront_102 ω d G l1 (0) Θ Q) ∧ (∀ (c35 : ¬ l1 = v26), (¬ fz Θ l0) ∧ (l1 = -1 ∨ kd Θ l1 ∈ [12, 13]) ∧ ∀ (Θ41 : Th) (t41 : Θ41 = pf Θ l0 (andI (v9 - 1) v19) l1), ∀ (v43 : Int) (e43 : v43 = gt (vv Θ41 l1) 9) (r43 : -1 ≤ v43), ∀ (v49 : Int) (e49 : v49 = gt (vv Θ41 l1) 5) (r49 : -1 ≤ v49), (∀ (c55 : v49 < 0), W2_J30_moveRootToFront_68 ω d G l1 v26 v49 v43 (0) Θ41 Q) ∧ (∀ (c55 : 0 ≤ v49), (v49 < 0 ∨ kd Θ41 v49 ∈ [13]) ∧ (kd Θ41 v49 = 13) ∧ (¬ fz Θ41 v49) ∧ ∀ (Θ65 : Th) (t65 : Θ65 = pf Θ41 v49 9 v43), W2_J30_moveRootToFront_68 ω d G l1 v26 v49 v43 (0) Θ65 Q)))))) : w2_J30_moveRootToFront ω d G l0 l1 Θ Q := sorry
set_option maxHeartbeats 4000000 in
theorem s2_J30_moveRootToFront_102 {ω : AO} {d G : Nat} {l1 : Int} {g : Nat} {Θ : Th} {Q : Th → Prop} (hB : (g ≤ G) ∧ Q Θ) : W2_J30_moveRootToFront_102 ω d G l1 g Θ Q := sorry
set_option maxHeartbeats 4000000 in
theorem s2_J30_moveRootToFront_68 {ω : AO} {d G : Nat} {l1 l4 l5 l6 : Int} {g : Nat} {Θ : Th} {Q : Th → Prop} (hB : (∀ (c70 : l6 < 0), W2_J30_moveRootToFront_80 ω d G l1 l4 (g) Θ Q) ∧ (∀ (c70 : 0 ≤ l6), (kd Θ l6 = 13) ∧ (¬ fz Θ l6) ∧ (-1 ≤ l5) ∧ ∀ (Θ77 : Th) (t77 : Θ77 = pf Θ l6 5 l5), W2_J30_moveRootToFront_80 ω d G l1 l4 (g) Θ77 Q)) : W2_J30_moveRootToFront_68 ω d G l1 l4 l5 l6 g Θ Q := sorry
set_option maxHeartbeats 4000000 in
theorem s2_J30_moveRootToFront_80 {ω : AO} {d G : Nat} {l1 l4 : Int} {g : Nat} {Θ : Th} {Q : Th → Prop} (hB : (∀ (c82 : l4 < 0), W2_J30_moveRootToFront_91 ω d G l1 l4 (g) Θ Q) ∧ (∀ (c82 : 0 ≤ l4), (kd Θ l4 = 13) ∧ (¬ fz Θ l4) ∧ (-1 ≤ l1) ∧ ∀ (Θ88 : Th) (t88 : Θ88 = pf Θ l4 9 l1), W2_J30_moveRootToFront_91 ω d G l1 l4 (g) Θ88 Q)) : W2_J30_moveRootToFront_80 ω d G l1 l4 g Θ Q := sorry
set_option maxHeartbeats 4000000 in
theorem s2_J30_moveRootToFront_91 {ω : AO} {d G : Nat} {l1 l4 : Int} {g : Nat} {Θ : Th} {Q : Th → Prop} (hB : (kd Θ l1 = 13) ∧ (¬ fz Θ l1) ∧ (-1 ≤ l4) ∧ ∀ (Θ94 : Th) (t94 : Θ94 = pf Θ l1 5 l4), (¬ fz Θ94 l1) ∧ (-1 ≤ (-1)) ∧ ∀ (Θ99 : Th) (t99 : Θ99 = pf Θ94 l1 9 (-1)), W2_J30_moveRootToFront_102 ω d G l1 (g) Θ99 Q) : W2_J30_moveRootToFront_91 ω d G l1 l4 g Θ Q := sorry
def W2_J30_treeify_4 (ω : AO) (d G : Nat) (l1 l2 l3 : Int) (g : Nat) (Θ : Th) (Q : Th → Prop) : Prop := Hid (SJ2 ω yJ30_treeify cJ30_treeify 13 none d G (fun Sz Θz => (eU Sz (q2U ω Θz Q))) 4 [vN, (2, l1), (2, l2), (2, l3), vN, vN, vN, vN, vN, vN, vN, vN, vN] [] g Θ)
def W2_J30_treeify_64 (ω : AO) (d G : Nat) (l1 l2 l3 l4 l5 l6 l7 l8 : Int) (g : Nat) (Θ : Th) (Q : Th → Prop) : Prop := Hid (SJ2 ω yJ30_treeify cJ30_treeify 13 none d G (fun Sz Θz => (eU Sz (q2U ω Θz Q))) 64 [vN, (2, l1), (2, l2), (2, l3), (2, l4), (2, l5), (0, l6), (2, l7), (2, l8), vN, vN, vN, vN] [] g Θ)
def W2_J30_treeify_119 (ω : AO) (d G : Nat) (l1 l2 l3 l4 l5 l6 l7 l8 l11 : Int) (g : Nat) (Θ : Th) (Q : Th → Prop) : Prop := Hid (SJ2 ω yJ30_treeify cJ30_treeify 13 none d G (fun Sz Θz => (eU Sz (q2U ω Θz Q))) 119 [vN, (2, l1), (2, l2), (2, l3), (2, l4), (2, l5), (0, l6), (2, l7), (2, l8), vN, vN, (2, l11), vN] [] g Θ)
def W2_J30_treeify_134 (ω : AO) (d G : Nat) (l1 l2 l3 l4 l5 l6 l7 l8 l11 : Int) (g : Nat) (Θ : Th) (Q : Th → Prop) : Prop := Hid (SJ2 ω yJ30_treeify cJ30_treeify 13 none d G (fun Sz Θz => (eU Sz (q2U ω Θz Q))) 134 [vN, (2, l1), (2, l2), (2, l3), (2, l4), (2, l5), (0, l6), (2, l7), (2, l8), vN, vN, (2, l11), vN] [] g Θ)
def W2_J30_treeify_143 (ω : AO) (d G : Nat) (l1 l2 l3 l4 l5 l6 l7 l8 l9 : Int) (g : Nat) (Θ : Th) (Q : Th → Prop) : Prop := Hid (SJ2 ω yJ30_treeify cJ30_treeify 13 none d G (fun Sz Θz => (eU Sz (q2U ω Θz Q))) 143 [vN, (2, l1), (2, l2), (2, l3), (2, l4), (2, l5), (0, l6), (2, l7), (2, l8), (0, l9), vN, vN, vN] [] g Θ)
def W2_J30_treeify_165 (ω : AO) (d G : Nat) (l1 l2 l3 l4 l5 l6 l7 l9 l12 s0 : Int) (g : Nat) (Θ : Th) (Q : Th → Prop) : Prop := Hid (SJ2 ω yJ30_treeify cJ30_treeify 13 none d G (fun Sz Θz => (eU Sz (q2U ω Θz Q))) 165 [vN, (2, l1), (2, l2), (2, l3), (2, l4), (2, l5), (0, l6), (2, l7), vN, (0, l9), vN, vN, (2, l12)] [(2, s0)] g Θ)
def W2_J30_treeify_197 (ω : AO) (d G : Nat) (l1 l2 l3 l4 : Int) (g : Nat) (Θ : Th) (Q : Th → Prop) : Prop := Hid (SJ2 ω yJ30_treeify cJ30_treeify 13 none d G (fun Sz Θz => (eU Sz (q2U ω Θz Q))) 197 [vN, (2, l1), (2, l2), (2, l3), (2, l4), vN, vN, vN, vN, vN, vN, vN, vN] [] g Θ)
set_option maxHeartbeats 4000000 in
theorem s2_J30_treeify {ω : AO} {d G : Nat} {l0 l1 : Int} {Θ : Th} {Q : Th → Prop} (hB : W2_J30_treeify_4 ω d G l1 ((-1)) l0 (0) Θ Q) : w2_J30_treeify ω d G l0 l1 Θ Q := sorry
set_option maxHeartbeats 4000000 in
theorem s2_J30_treeify_4 {ω : AO} {d G : Nat} {l1 l2 l3 : Int} {g : Nat} {Θ : Th} {Q : Th → Prop} (hB : (∀ (c5 : l3 < 0), (1 ≤ d) ∧ ∃ G217 : Nat, (g + G217 ≤ G) ∧ w2_J30_moveRootToFront ω (d - 1) G217 l1 l2 Θ (fun Θ217 => ∀ (L217 : Le Θ Θ217), (g + G217 ≤ G) ∧ Q Θ217)) ∧ (∀ (c5 : 0 ≤ l3), (kd Θ l3 = 13) ∧ ∀ (v9 : Int) (e9 : v9 = gt (vv Θ l3) 5) (r9 : -1 ≤ v9), (v9 < 0 ∨ kd Θ v9 ∈ [13]) ∧ (¬ fz Θ l3) ∧ (-1 ≤ (-1)) ∧ ∀ (Θ21 : Th) (t21 : Θ21 = pf Θ l3 8 (-1)), (¬ fz Θ21 l3) ∧ ∀ (Θ24 : Th) (t24 : Θ24 = pf Θ21 l3 7 (-1)), (∀ (c28 : 0 ≤ l2), ∀ (v47 : Int) (e47 : v47 = gt (vv Θ24 l3) 3) (r47 : -1 ≤ v47), ∀ (v53 : Int) (e53 : v53 = gt (vv Θ24 l3) 2) (r53 : -2147483648 ≤ v53 ∧ v53 < 2147483648), W2_J30_treeify_64 ω d G l1 l2 l3 v9 v47 v53 ((-1)) l2 (g) Θ24 Q) ∧ (∀ (c28 : l2 < 0), (¬ fz Θ24 l3) ∧ ∀ (Θ33 : Th) (t33 : Θ33 = pf Θ24 l3 6 (-1)), (¬ fz Θ33 l3) ∧ ∀ (Θ38 : Th) (t38 : Θ38 = pf Θ33 l3 10 0), W2_J30_treeify_4 ω d G l1 l3 v9 (g) Θ38 Q))) : W2_J30_treeify_4 ω d G l1 l2 l3 g Θ Q := sorry
set_option maxHeartbeats 4000000 in
theorem s2_J30_treeify_64 {ω : AO} {d G : Nat} {l1 l2 l3 l4 l5 l6 l7 l8 : Int} {g : Nat} {Θ : Th} {Q : Th → Prop} (hB : (kd Θ l8 = 13) ∧ ∀ (v66 : Int) (e66 : v66 = gt (vv Θ l8) 3) (r66 : -1 ≤ v66), ∀ (v73 : Int) (e73 : v73 = gt (vv Θ l8) 2) (r73 : -2147483648 ≤ v73 ∧ v73 < 2147483648), (-2147483648 ≤ l6 ∧ l6 < 2147483648) ∧ (∀ (c81 : v73 ≤ l6), (∀ (c94 : l6 ≤ v73), (∀ (c105 : 0 ≤ l7), W2_J30_treeify_119 ω d G l1 l2 l3 l4 l5 l6 l7 l8 v66 (g) Θ Q) ∧ (∀ (c105 : l7 < 0), (1 ≤ d) ∧ ∃ G110 : Nat, (g + G110 ≤ G) ∧ w2_J9_comparableClassFor ω (d - 1) G110 l5 Θ (fun x110 Θ110 => ∀ (L110 : Le Θ Θ110) (r110 : -1 ≤ x110), (∀ (c116 : x110 < 0), W2_J30_treeify_134 ω d G l1 l2 l3 l4 l5 l6 x110 l8 v66 (g + G110) Θ110 Q) ∧ (∀ (c116 : 0 ≤ x110), W2_J30_treeify_119 ω d G l1 l2 l3 l4 l5 l6 x110 l8 v66 (g + G110) Θ110 Q)))) ∧ (∀ (c94 : v73 < l6), W2_J30_treeify_143 ω d G l1 l2 l3 l4 l5 l6 l7 l8 1 (g) Θ Q)) ∧ (∀ (c81 : l6 < v73), W2_J30_treeify_143 ω d G l1 l2 l3 l4 l5 l6 l7 l8 ((-1)) (g) Θ Q)) : W2_J30_treeify_64 ω d G l1 l2 l3 l4 l5 l6 l7 l8 g Θ Q := sorry
set_option maxHeartbeats 4000000 in
theorem s2_J30_treeify_119 {ω : AO} {d G : Nat} {l1 l2 l3 l4 l5 l6 l7 l8 l11 : Int} {g : Nat} {Θ : Th} {Q : Th → Prop} (hB : (1 ≤ d) ∧ ∃ G125 : Nat, (g + G125 ≤ G) ∧ w2_J9_compareComparables ω (d - 1) G125 l7 l5 l11 Θ (fun x125 Θ125 => ∀ (L125 : Le Θ Θ125) (r125 : -2147483648 ≤ x125 ∧ x125 < 2147483648), (∀ (c131 : ¬ x125 = 0), W2_J30_treeify_143 ω d G l1 l2 l3 l4 l5 l6 l7 l8 x125 (g + G125) Θ125 Q) ∧ (∀ (c131 : x125 = 0), W2_J30_treeify_134 ω d G l1 l2 l3 l4 l5 l6 l7 l8 l11 (g + G125) Θ125 Q))) : W2_J30_treeify_119 ω d G l1 l2 l3 l4 l5 l6 l7 l8 l11 g Θ Q := sorry
set_option maxHeartbeats 4000000 in
theorem s2_J30_treeify_134 {ω : AO} {d G : Nat} {l1 l2 l3 l4 l5 l6 l7 l8 l11 : Int} {g : Nat} {Θ : Th} {Q : Th → Prop} (hB : False) : W2_J30_treeify_134 ω d G l1 l2 l3 l4 l5 l6 l7 l8 l11 g Θ Q := sorry
set_option maxHeartbeats 4000000 in
theorem s2_J30_treeify_143 {ω : AO} {d G : Nat} {l1 l2 l3 l4 l5 l6 l7 l8 l9 : Int} {g : Nat} {Θ : Th} {Q : Th → Prop} (hB : (-2147483648 ≤ l9 ∧ l9 < 2147483648) ∧ (∀ (c149 : 0 < l9), (kd Θ l8 = 13) ∧ ∀ (v162 : Int) (e162 : v162 = gt (vv Θ l8) 8) (r162 : -1 ≤ v162), W2_J30_treeify_165 ω d G l1 l2 l3 l4 l5 l6 l7 l9 l8 v162 (g) Θ Q) ∧ (∀ (c149 : l9 ≤ 0), (kd Θ l8 = 13) ∧ ∀ (v154 : Int) (e154 : v154 = gt (vv Θ l8) 7) (r154 : -1 ≤ v154), W2_J30_treeify_165 ω d G l1 l2 l3 l4 l5 l6 l7 l9 l8 v154 (g) Θ Q)) : W2_J30_treeify_143 ω d G l1 l2 l3 l4 l5 l6 l7 l8 l9 g Θ Q := sorry
set_option maxHeartbeats 4000000 in
theorem s2_J30_treeify_165 {ω : AO} {d G : Nat} {l1 l2 l3 l4 l5 l6 l7 l9 l12 s0 : Int} {g : Nat} {Θ : Th} {Q : Th → Prop} (hB : (∀ (c168 : 0 ≤ s0), W2_J30_treeify_64 ω d G l1 l2 l3 l4 l5 l6 l7 s0 (g) Θ Q) ∧ (∀ (c168 : s0 < 0), (kd Θ l3 = 13) ∧ (¬ fz Θ l3) ∧ (-1 ≤ l12) ∧ ∀ (Θ174 : Th) (t174 : Θ174 = pf Θ l3 6 l12), (-2147483648 ≤ l9 ∧ l9 < 2147483648) ∧ (∀ (c179 : 0 < l9), (kd Θ174 l12 = 13) ∧ (¬ fz Θ174 l12) ∧ (-1 ≤ l3) ∧ ∀ (Θ194 : Th) (t194 : Θ194 = pf Θ174 l12 8 l3), W2_J30_treeify_197 ω d G l1 l2 l3 l4 (g) Θ194 Q) ∧ (∀ (c179 : l9 ≤ 0), (kd Θ174 l12 = 13) ∧ (¬ fz Θ174 l12) ∧ (-1 ≤ l3) ∧ ∀ (Θ185 : Th) (t185 : Θ185 = pf Θ174 l12 7 l3), W2_J30_treeify_197 ω d G l1 l2 l3 l4 (g) Θ185 Q))) : W2_J30_treeify_165 ω d G l1 l2 l3 l4 l5 l6 l7 l9 l12 s0 g Θ Q := sorry
set_option maxHeartbeats 4000000 in
theorem s2_J30_treeify_197 {ω : AO} {d G : Nat} {l1 l2 l3 l4 : Int} {g : Nat} {Θ : Th} {Q : Th → Prop} (hB : (1 ≤ d) ∧ ∃ G199 : Nat, (g + G199 ≤ G) ∧ w2_J30_balanceInsertion ω (d - 1) G199 l2 l3 Θ (fun x199 Θ199 => ∀ (L199 : Le Θ Θ199) (r199 : -1 ≤ x199), W2_J30_treeify_4 ω d G l1 x199 l4 (g + G199) Θ199 Q)) : W2_J30_treeify_197 ω d G l1 l2 l3 l4 g Θ Q := sorry
def W2_J30_untreeify_7 (ω : AO) (d G : Nat) (l1 l2 l3 l4 : Int) (g : Nat) (Θ : Th) (Q : Int → Th → Prop) : Prop := Hid (SJ2 ω yJ30_untreeify cJ30_untreeify 6 (some (.object "java/util/HashMap$Node")) d G (fun Sz Θz => (eA Sz (q2 ω Θz Q))) 7 [vN, (2, l1), (2, l2), (2, l3), (2, l4), vN] [] g Θ)
def W2_J30_untreeify_37 (ω : AO) (d G : Nat) (l1 l2 l4 l5 : Int) (g : Nat) (Θ : Th) (Q : Int → Th → Prop) : Prop := Hid (SJ2 ω yJ30_untreeify cJ30_untreeify 6 (some (.object "java/util/HashMap$Node")) d G (fun Sz Θz => (eA Sz (q2 ω Θz Q))) 37 [vN, (2, l1), (2, l2), vN, (2, l4), (2, l5)] [] g Θ)
set_option maxHeartbeats 4000000 in
theorem s2_J30_untreeify {ω : AO} {d G : Nat} {l0 l1 : Int} {Θ : Th} {Q : Int → Th → Prop} (hB : W2_J30_untreeify_7 ω d G l1 ((-1)) ((-1)) l0 (0) Θ Q) : w2_J30_untreeify ω d G l0 l1 Θ Q := sorry
set_option maxHeartbeats 4000000 in
theorem s2_J30_untreeify_7 {ω : AO} {d G : Nat} {l1 l2 l3 l4 : Int} {g : Nat} {Θ : Th} {Q : Int → Th → Prop} (hB : (∀ (c9 : l4 < 0), (g ≤ G) ∧ (-1 ≤ l2) ∧ Q l2 Θ) ∧ (∀ (c9 : 0 ≤ l4), (1 ≤ d) ∧ (kd Θ l1 = 4) ∧ ∃ G16 : Nat, (g + G16 ≤ G) ∧ w2_J9_replacementNode ω (d - 1) G16 l1 l4 (-1) Θ (fun x16 Θ16 => ∀ (L16 : Le Θ Θ16) (r16 : -1 ≤ x16), (∀ (c22 : 0 ≤ l3), (kd Θ16 l3 = 12 ∨ kd Θ16 l3 = 13) ∧ (¬ fz Θ16 l3) ∧ (-1 ≤ x16) ∧ ∀ (Θ34 : Th) (t34 : Θ34 = pf Θ16 l3 (nfi (kd Θ16 l3) 3) x16), W2_J30_untreeify_37 ω d G l1 l2 l4 x16 (g + G16) Θ34 Q) ∧ (∀ (c22 : l3 < 0), W2_J30_untreeify_37 ω d G l1 x16 l4 x16 (g + G16) Θ16 Q)))) : W2_J30_untreeify_7 ω d G l1 l2 l3 l4 g Θ Q := sorry
set_option maxHeartbeats 4000000 in
theorem s2_J30_untreeify_37 {ω : AO} {d G : Nat} {l1 l2 l4 l5 : Int} {g : Nat} {Θ : Th} {Q : Int → Th → Prop} (hB : (kd Θ l4 = 12 ∨ kd Θ l4 = 13) ∧ ∀ (v42 : Int) (e42 : v42 = gt (vv Θ l4) (nfi (kd Θ l4) 3)) (r42 : -1 ≤ v42), W2_J30_untreeify_7 ω d G l1 l2 l5 v42 (g) Θ Q) : W2_J30_untreeify_37 ω d G l1 l2 l4 l5 g Θ Q := sorry
def W2_J30_split_25 (ω : AO) (d G : Nat) (l1 l2 l3 l4 l6 l7 l8 l9 l10 l11 l12 : Int) (g : Nat) (Θ : Th) (Q : Th → Prop) : Prop := Hid (SJ2 ω yJ30_split cJ30_split 14 none d G (fun Sz Θz => (eU Sz (q2U ω Θz Q))) 25 [vN, (2, l1), (2, l2), (0, l3), (0, l4), vN, (2, l6), (2, l7), (2, l8), (2, l9), (0, l10), (0, l11), (2, l12), vN] [] g Θ)
def W2_J30_split_171 (ω : AO) (d G : Nat) (l1 l2 l3 l4 l6 l8 l11 : Int) (g : Nat) (Θ : Th) (Q : Th → Prop) : Prop := Hid (SJ2 ω yJ30_split cJ30_split 14 none d G (fun Sz Θz => (eU Sz (q2U ω Θz Q))) 171 [vN, (2, l1), (2, l2), (0, l3), (0, l4), vN, (2, l6), vN, (2, l8), vN, vN, (0, l11), vN, vN] [] g Θ)
def W2_J30_split_117 (ω : AO) (d G : Nat) (l1 l2 l3 l4 l6 l7 l8 l10 l11 l12 l13 : Int) (g : Nat) (Θ : Th) (Q : Th → Prop) : Prop := Hid (SJ2 ω yJ30_split cJ30_split 14 none d G (fun Sz Θz => (eU Sz (q2U ω Θz Q))) 117 [vN, (2, l1), (2, l2), (0, l3), (0, l4), vN, (2, l6), (2, l7), (2, l8), vN, (0, l10), (0, l11), (2, l12), (2, l13)] [] g Θ)
def W2_J30_split_82 (ω : AO) (d G : Nat) (l1 l2 l3 l4 l6 l8 l9 l10 l11 l12 l13 : Int) (g : Nat) (Θ : Th) (Q : Th → Prop) : Prop := Hid (SJ2 ω yJ30_split cJ30_split 14 none d G (fun Sz Θz => (eU Sz (q2U ω Θz Q))) 82 [vN, (2, l1), (2, l2), (0, l3), (0, l4), vN, (2, l6), vN, (2, l8), (2, l9), (0, l10), (0, l11), (2, l12), (2, l13)] [] g Θ)
set_option maxHeartbeats 4000000 in
theorem s2_J30_split {ω : AO} {d G : Nat} {l0 l1 l2 l3 l4 : Int} {Θ : Th} {Q : Th → Prop} (hB : W2_J30_split_25 ω d G l1 l2 l3 l4 ((-1)) ((-1)) ((-1)) ((-1)) 0 0 l0 (0) Θ Q) : w2_J30_split ω d G l0 l1 l2 l3 l4 Θ Q := sorry
set_option maxHeartbeats 4000000 in
theorem s2_J30_split_25 {ω : AO} {d G : Nat} {l1 l2 l3 l4 l6 l7 l8 l9 l10 l11 l12 : Int} {g : Nat} {Θ : Th} {Q : Th → Prop} (hB : (∀ (c27 : l12 < 0), (∀ (c133 : l6 < 0), W2_J30_split_171 ω d G l1 l2 l3 l4 l6 l8 l11 (g) Θ Q) ∧ (∀ (c133 : 0 ≤ l6), (-2147483648 ≤ l10 ∧ l10 < 2147483648) ∧ (∀ (c140 : 6 < l10), (kd Θ l2 = 107) ∧ (¬ fz Θ l2) ∧ (0 ≤ l3 ∧ l3 < len (vv Θ l2)) ∧ (l6 = -1 ∨ kd Θ l6 ∈ [12, 13]) ∧ ∀ (Θ159 : Th) (t159 : Θ159 = pf Θ l2 l3 l6), (∀ (c162 : l8 < 0), W2_J30_split_171 ω d G l1 l2 l3 l4 l6 l8 l11 (g) Θ159 Q) ∧ (∀ (c162 : 0 ≤ l8), (1 ≤ d) ∧ (kd Θ159 l6 = 13) ∧ ∃ G168 : Nat, (g + G168 ≤ G) ∧ w2_J30_treeify ω (d - 1) G168 l6 l2 Θ159 (fun Θ168 => ∀ (L168 : Le Θ159 Θ168), W2_J30_split_171 ω d G l1 l2 l3 l4 l6 l8 l11 (g + G168) Θ168 Q))) ∧ (∀ (c140 : l10 ≤ 6), (1 ≤ d) ∧ (kd Θ l6 = 13) ∧ ∃ G148 : Nat, (g + G148 ≤ G) ∧ w2_J30_untreeify ω (d - 1) G148 l6 l1 Θ (fun x148 Θ148 => ∀ (L148 : Le Θ Θ148) (r148 : -1 ≤ x148), (kd Θ148 l2 = 107) ∧ (¬ fz Θ148 l2) ∧ (0 ≤ l3 ∧ l3 < len (vv Θ148 l2)) ∧ (x148 = -1 ∨ kd Θ148 x148 ∈ [12, 13]) ∧ ∀ (Θ151 : Th) (t151 : Θ151 = pf Θ148 l2 l3 x148), W2_J30_split_171 ω d G l1 l2 l3 l4 l6 l8 l11 (g + G148) Θ151 Q)))) ∧ (∀ (c27 : 0 ≤ l12), (kd Θ l12 = 13) ∧ ∀ (v32 : Int) (e32 : v32 = gt (vv Θ l12) 5) (r32 : -1 ≤ v32), (v32 < 0 ∨ kd Θ v32 ∈ [13]) ∧ (¬ fz Θ l12) ∧ (-1 ≤ (-1)) ∧ ∀ (Θ43 : Th) (t43 : Θ43 = pf Θ l12 5 (-1)), ∀ (v48 : Int) (e48 : v48 = gt (vv Θ43 l12) 2) (r48 : -2147483648 ≤ v48 ∧ v48 < 2147483648), (∀ (c54 : ¬ (andI v48 l4) = 0), (¬ fz Θ43 l12) ∧ (-1 ≤ l9) ∧ ∀ (Θ97 : Th) (t97 : Θ97 = pf Θ43 l12 9 l9), (∀ (c100 : 0 ≤ l9), (kd Θ97 l9 = 13) ∧ (¬ fz Θ97 l9) ∧ (-1 ≤ l12) ∧ ∀ (Θ114 : Th) (t114 : Θ114 = pf Θ97 l9 5 l12), W2_J30_split_117 ω d G l1 l2 l3 l4 l6 l7 l8 l10 l11 l12 v32 (g) Θ114 Q) ∧ (∀ (c100 : l9 < 0), W2_J30_split_117 ω d G l1 l2 l3 l4 l6 l7 l12 l10 l11 l12 v32 (g) Θ97 Q)) ∧ (∀ (c54 : (andI v48 l4) = 0), (¬ fz Θ43 l12) ∧ (-1 ≤ l7) ∧ ∀ (Θ62 : Th) (t62 : Θ62 = pf Θ43 l12 9 l7), (∀ (c65 : 0 ≤ l7), (kd Θ62 l7 = 13) ∧ (¬ fz Θ62 l7) ∧ (-1 ≤ l12) ∧ ∀ (Θ79 : Th) (t79 : Θ79 = pf Θ62 l7 5 l12), W2_J30_split_82 ω d G l1 l2 l3 l4 l6 l8 l9 l10 l11 l12 v32 (g) Θ79 Q) ∧ (∀ (c65 : l7 < 0), W2_J30_split_82 ω d G l1 l2 l3 l4 l12 l8 l9 l10 l11 l12 v32 (g) Θ62 Q)))) : W2_J30_split_25 ω d G l1 l2 l3 l4 l6 l7 l8 l9 l10 l11 l12 g Θ Q := sorry
set_option maxHeartbeats 4000000 in
theorem s2_J30_split_171 {ω : AO} {d G : Nat} {l1 l2 l3 l4 l6 l8 l11 : Int} {g : Nat} {Θ : Th} {Q : Th → Prop} (hB : (∀ (c173 : l8 < 0), (g ≤ G) ∧ Q Θ) ∧ (∀ (c173 : 0 ≤ l8), (-2147483648 ≤ l11 ∧ l11 < 2147483648) ∧ (∀ (c180 : 6 < l11), (kd Θ l2 = 107) ∧ (¬ fz Θ l2) ∧ (0 ≤ (l3 + l4) ∧ (l3 + l4) < len (vv Θ l2)) ∧ (l8 = -1 ∨ kd Θ l8 ∈ [12, 13]) ∧ ∀ (Θ205 : Th) (t205 : Θ205 = pf Θ l2 (l3 + l4) l8), (∀ (c208 : l6 < 0), (g ≤ G) ∧ Q Θ205) ∧ (∀ (c208 : 0 ≤ l6), (1 ≤ d) ∧ (kd Θ205 l8 = 13) ∧ ∃ G214 : Nat, (g + G214 ≤ G) ∧ w2_J30_treeify ω (d - 1) G214 l8 l2 Θ205 (fun Θ214 => ∀ (L214 : Le Θ205 Θ214), (g + G214 ≤ G) ∧ Q Θ214))) ∧ (∀ (c180 : l11 ≤ 6), (1 ≤ d) ∧ (kd Θ l8 = 13) ∧ ∃ G191 : Nat, (g + G191 ≤ G) ∧ w2_J30_untreeify ω (d - 1) G191 l8 l1 Θ (fun x191 Θ191 => ∀ (L191 : Le Θ Θ191) (r191 : -1 ≤ x191), (kd Θ191 l2 = 107) ∧ (¬ fz Θ191 l2) ∧ (0 ≤ (l3 + l4) ∧ (l3 + l4) < len (vv Θ191 l2)) ∧ (x191 = -1 ∨ kd Θ191 x191 ∈ [12, 13]) ∧ ∀ (Θ194 : Th) (t194 : Θ194 = pf Θ191 l2 (l3 + l4) x191), (g + G191 ≤ G) ∧ Q Θ194)))) : W2_J30_split_171 ω d G l1 l2 l3 l4 l6 l8 l11 g Θ Q := sorry
set_option maxHeartbeats 4000000 in
theorem s2_J30_split_117 {ω : AO} {d G : Nat} {l1 l2 l3 l4 l6 l7 l8 l10 l11 l12 l13 : Int} {g : Nat} {Θ : Th} {Q : Th → Prop} (hB : W2_J30_split_25 ω d G l1 l2 l3 l4 l6 l7 l8 l12 l10 ((l11 + 1)) l13 (g) Θ Q) : W2_J30_split_117 ω d G l1 l2 l3 l4 l6 l7 l8 l10 l11 l12 l13 g Θ Q := sorry
set_option maxHeartbeats 4000000 in
theorem s2_J30_split_82 {ω : AO} {d G : Nat} {l1 l2 l3 l4 l6 l8 l9 l10 l11 l12 l13 : Int} {g : Nat} {Θ : Th} {Q : Th → Prop} (hB : W2_J30_split_25 ω d G l1 l2 l3 l4 l6 l12 l8 l9 ((l10 + 1)) l11 l13 (g) Θ Q) : W2_J30_split_82 ω d G l1 l2 l3 l4 l6 l8 l9 l10 l11 l12 l13 g Θ Q := sorry
def W2_J30_putTreeVal_27 (ω : AO) (d G : Nat) (l1 l2 l3 l4 l5 l6 l7 l8 l9 : Int) (g : Nat) (Θ : Th) (Q : Int → Th → Prop) : Prop := Hid (SJ2 ω yJ30_putTreeVal cJ30_putTreeVal 16 (some (.object "java/util/HashMap$TreeNode")) d G (fun Sz Θz => (eA Sz (q2 ω Θz Q))) 27 [vN, (2, l1), (2, l2), (0, l3), (2, l4), (2, l5), (2, l6), (0, l7), (2, l8), (2, l9), vN, vN, vN, vN, vN, vN] [] g Θ)
def W2_J30_putTreeVal_88 (ω : AO) (d G : Nat) (l1 l2 l3 l4 l5 l6 l7 l8 l9 l12 : Int) (g : Nat) (Θ : Th) (Q : Int → Th → Prop) : Prop := Hid (SJ2 ω yJ30_putTreeVal cJ30_putTreeVal 16 (some (.object "java/util/HashMap$TreeNode")) d G (fun Sz Θz => (eA Sz (q2 ω Θz Q))) 88 [vN, (2, l1), (2, l2), (0, l3), (2, l4), (2, l5), (2, l6), (0, l7), (2, l8), (2, l9), vN, vN, (2, l12), vN, vN, vN] [] g Θ)
def W2_J30_putTreeVal_193 (ω : AO) (d G : Nat) (l1 l2 l3 l4 l5 l6 l7 l8 l9 l10 : Int) (g : Nat) (Θ : Th) (Q : Int → Th → Prop) : Prop := Hid (SJ2 ω yJ30_putTreeVal cJ30_putTreeVal 16 (some (.object "java/util/HashMap$TreeNode")) d G (fun Sz Θz => (eA Sz (q2 ω Θz Q))) 193 [vN, (2, l1), (2, l2), (0, l3), (2, l4), (2, l5), (2, l6), (0, l7), (2, l8), (2, l9), (0, l10), vN, vN, vN, vN, vN] [] g Θ)
def W2_J30_putTreeVal_104 (ω : AO) (d G : Nat) (l1 l2 l3 l4 l5 l6 l7 l8 l9 l12 : Int) (g : Nat) (Θ : Th) (Q : Int → Th → Prop) : Prop := Hid (SJ2 ω yJ30_putTreeVal cJ30_putTreeVal 16 (some (.object "java/util/HashMap$TreeNode")) d G (fun Sz Θz => (eA Sz (q2 ω Θz Q))) 104 [vN, (2, l1), (2, l2), (0, l3), (2, l4), (2, l5), (2, l6), (0, l7), (2, l8), (2, l9), vN, vN, (2, l12), vN, vN, vN] [] g Θ)
def W2_J30_putTreeVal_119 (ω : AO) (d G : Nat) (l1 l2 l3 l4 l5 l6 l7 l8 l9 l12 : Int) (g : Nat) (Θ : Th) (Q : Int → Th → Prop) : Prop := Hid (SJ2 ω yJ30_putTreeVal cJ30_putTreeVal 16 (some (.object "java/util/HashMap$TreeNode")) d G (fun Sz Θz => (eA Sz (q2 ω Θz Q))) 119 [vN, (2, l1), (2, l2), (0, l3), (2, l4), (2, l5), (2, l6), (0, l7), (2, l8), (2, l9), vN, vN, (2, l12), vN, vN, vN] [] g Θ)
def W2_J30_putTreeVal_215 (ω : AO) (d G : Nat) (l1 l2 l3 l4 l5 l6 l7 l8 l10 l13 s0 : Int) (g : Nat) (Θ : Th) (Q : Int → Th → Prop) : Prop := Hid (SJ2 ω yJ30_putTreeVal cJ30_putTreeVal 16 (some (.object "java/util/HashMap$TreeNode")) d G (fun Sz Θz => (eA Sz (q2 ω Θz Q))) 215 [vN, (2, l1), (2, l2), (0, l3), (2, l4), (2, l5), (2, l6), (0, l7), (2, l8), vN, (0, l10), vN, vN, (2, l13), vN, vN] [(2, s0)] g Θ)
def W2_J30_putTreeVal_184 (ω : AO) (d G : Nat) (l1 l2 l3 l4 l5 l6 l7 l8 l9 l12 : Int) (g : Nat) (Θ : Th) (Q : Int → Th → Prop) : Prop := Hid (SJ2 ω yJ30_putTreeVal cJ30_putTreeVal 16 (some (.object "java/util/HashMap$TreeNode")) d G (fun Sz Θz => (eA Sz (q2 ω Θz Q))) 184 [vN, (2, l1), (2, l2), (0, l3), (2, l4), (2, l5), (2, l6), (0, l7), (2, l8), (2, l9), vN, vN, (2, l12), vN, vN, vN] [] g Θ)
def W2_J30_putTreeVal_154 (ω : AO) (d G : Nat) (l1 l2 l3 l4 l5 l6 l7 l8 l9 l12 : Int) (g : Nat) (Θ : Th) (Q : Int → Th → Prop) : Prop := Hid (SJ2 ω yJ30_putTreeVal cJ30_putTreeVal 16 (some (.object "java/util/HashMap$TreeNode")) d G (fun Sz Θz => (eA Sz (q2 ω Θz Q))) 154 [vN, (2, l1), (2, l2), (0, l3), (2, l4), (2, l5), (2, l6), (0, l7), (2, l8), (2, l9), vN, vN, (2, l12), vN, vN, vN] [] g Θ)
def W2_J30_putTreeVal_263 (ω : AO) (d G : Nat) (l2 l8 l13 l14 l15 : Int) (g : Nat) (Θ : Th) (Q : Int → Th → Prop) : Prop := Hid (SJ2 ω yJ30_putTreeVal cJ30_putTreeVal 16 (some (.object "java/util/HashMap$TreeNode")) d G (fun Sz Θz => (eA Sz (q2 ω Θz Q))) 263 [vN, vN, (2, l2), vN, vN, vN, vN, vN, (2, l8), vN, vN, vN, vN, (2, l13), (2, l14), (2, l15)] [] g Θ)
def W2_J30_putTreeVal_298 (ω : AO) (d G : Nat) (l2 l8 l15 : Int) (g : Nat) (Θ : Th) (Q : Int → Th → Prop) : Prop := Hid (SJ2 ω yJ30_putTreeVal cJ30_putTreeVal 16 (some (.object "java/util/HashMap$TreeNode")) d G (fun Sz Θz => (eA Sz (q2 ω Θz Q))) 298 [vN, vN, (2, l2), vN, vN, vN, vN, vN, (2, l8), vN, vN, vN, vN, vN, vN, (2, l15)] [] g Θ)
set_option maxHeartbeats 4000000 in
theorem s2_J30_putTreeVal {ω : AO} {d G : Nat} {l0 l1 l2 l3 l4 l5 : Int} {Θ : Th} {Q : Int → Th → Prop} (hB : (kd Θ l0 = 13) ∧ ∀ (v7 : Int) (e7 : v7 = gt (vv Θ l0) 6) (r7 : -1 ≤ v7), (∀ (c10 : v7 < 0), W2_J30_putTreeVal_27 ω d G l1 l2 l3 l4 l5 ((-1)) 0 l0 l0 (0) Θ Q) ∧ (∀ (c10 : 0 ≤ v7), (1 ≤ d) ∧ ∃ G14 : Nat, (0 + G14 ≤ G) ∧ w2_J30_root ω (d - 1) G14 l0 Θ (fun x14 Θ14 => ∀ (L14 : Le Θ Θ14) (r14 : -1 ≤ x14), W2_J30_putTreeVal_27 ω d G l1 l2 l3 l4 l5 ((-1)) 0 x14 x14 (0 + G14) Θ14 Q))) : w2_J30_putTreeVal ω d G l0 l1 l2 l3 l4 l5 Θ Q := sorry
set_option maxHeartbeats 4000000 in
theorem s2_J30_putTreeVal_27 {ω : AO} {d G : Nat} {l1 l2 l3 l4 l5 l6 l7 l8 l9 : Int} {g : Nat} {Θ : Th} {Q : Int → Th → Prop} (hB : (kd Θ l9 = 13) ∧ ∀ (v29 : Int) (e29 : v29 = gt (vv Θ l9) 2) (r29 : -2147483648 ≤ v29 ∧ v29 < 2147483648), (-2147483648 ≤ l3 ∧ l3 < 2147483648) ∧ (∀ (c36 : v29 ≤ l3), (∀ (c48 : l3 ≤ v29), ∀ (v59 : Int) (e59 : v59 = gt (vv Θ l9) 3) (r59 : -1 ≤ v59), (-1 ≤ l4) ∧ (∀ (c67 : v59 = l4), (g ≤ G) ∧ (-1 ≤ l9) ∧ Q l9 Θ) ∧ (∀ (c67 : ¬ v59 = l4), (∀ (c72 : l4 < 0), W2_J30_putTreeVal_88 ω d G l1 l2 l3 l4 l5 l6 l7 l8 l9 v59 (g) Θ Q) ∧ (∀ (c72 : 0 ≤ l4), (1 ≤ d) ∧ (((kd Θ l4 = 2) ∧ ∃ G79 : Nat, (g + G79 ≤ G) ∧ w2_J2_equals ω (d - 1) G79 l4 v59 Θ (fun x79 Θ79 => ∀ (L79 : Le Θ Θ79) (r79 : x79 = 0 ∨ x79 = 1), (∀ (c82 : x79 = 0), W2_J30_putTreeVal_88 ω d G l1 l2 l3 l4 l5 l6 l7 l8 l9 v59 (g + G79) Θ79 Q) ∧ (∀ (c82 : ¬ x79 = 0), (g + G79 ≤ G) ∧ (-1 ≤ l9) ∧ Q l9 Θ79))) ∨ ((kd Θ l4 = 26) ∧ ∃ G79 : Nat, (g + G79 ≤ G) ∧ w2_J33_equals ω (d - 1) G79 l4 v59 Θ (fun x79 Θ79 => ∀ (L79 : Le Θ Θ79) (r79 : x79 = 0 ∨ x79 = 1), (∀ (c82 : x79 = 0), W2_J30_putTreeVal_88 ω d G l1 l2 l3 l4 l5 l6 l7 l8 l9 v59 (g + G79) Θ79 Q) ∧ (∀ (c82 : ¬ x79 = 0), (g + G79 ≤ G) ∧ (-1 ≤ l9) ∧ Q l9 Θ79))) ∨ ((kd Θ l4 = 35) ∧ ∃ G79 : Nat, (g + G79 ≤ G) ∧ w2_J33_equals ω (d - 1) G79 l4 v59 Θ (fun x79 Θ79 => ∀ (L79 : Le Θ Θ79) (r79 : x79 = 0 ∨ x79 = 1), (∀ (c82 : x79 = 0), W2_J30_putTreeVal_88 ω d G l1 l2 l3 l4 l5 l6 l7 l8 l9 v59 (g + G79) Θ79 Q) ∧ (∀ (c82 : ¬ x79 = 0), (g + G79 ≤ G) ∧ (-1 ≤ l9) ∧ Q l9 Θ79))) ∨ ((kd Θ l4 = 65) ∧ ∃ G79 : Nat, (g + G79 ≤ G) ∧ w2_J33_equals ω (d - 1) G79 l4 v59 Θ (fun x79 Θ79 => ∀ (L79 : Le Θ Θ79) (r79 : x79 = 0 ∨ x79 = 1), (∀ (c82 : x79 = 0), W2_J30_putTreeVal_88 ω d G l1 l2 l3 l4 l5 l6 l7 l8 l9 v59 (g + G79) Θ79 Q) ∧ (∀ (c82 : ¬ x79 = 0), (g + G79 ≤ G) ∧ (-1 ≤ l9) ∧ Q l9 Θ79))))))) ∧ (∀ (c48 : v29 < l3), W2_J30_putTreeVal_193 ω d G l1 l2 l3 l4 l5 l6 l7 l8 l9 1 (g) Θ Q)) ∧ (∀ (c36 : l3 < v29), W2_J30_putTreeVal_193 ω d G l1 l2 l3 l4 l5 l6 l7 l8 l9 ((-1)) (g) Θ Q)) : W2_J30_putTreeVal_27 ω d G l1 l2 l3 l4 l5 l6 l7 l8 l9 g Θ Q := sorry
set_option maxHeartbeats 4000000 in
theorem s2_J30_putTreeVal_88 {ω : AO} {d G : Nat} {l1 l2 l3 l4 l5 l6 l7 l8 l9 l12 : Int} {g : Nat} {Θ : Th} {Q : Int → Th → Prop} (hB : (∀ (c90 : 0 ≤ l6), W2_J30_putTreeVal_104 ω d G l1 l2 l3 l4 l5 l6 l7 l8 l9 l12 (g) Θ Q) ∧ (∀ (c90 : l6 < 0), (1 ≤ d) ∧ ∃ G95 : Nat, (g + G95 ≤ G) ∧ w2_J9_comparableClassFor ω (d - 1) G95 l4 Θ (fun x95 Θ95 => ∀ (L95 : Le Θ Θ95) (r95 : -1 ≤ x95), (∀ (c101 : x95 < 0), W2_J30_putTreeVal_119 ω d G l1 l2 l3 l4 l5 x95 l7 l8 l9 l12 (g + G95) Θ95 Q) ∧ (∀ (c101 : 0 ≤ x95), W2_J30_putTreeVal_104 ω d G l1 l2 l3 l4 l5 x95 l7 l8 l9 l12 (g + G95) Θ95 Q)))) : W2_J30_putTreeVal_88 ω d G l1 l2 l3 l4 l5 l6 l7 l8 l9 l12 g Θ Q := sorry
set_option maxHeartbeats 4000000 in
theorem s2_J30_putTreeVal_193 {ω : AO} {d G : Nat} {l1 l2 l3 l4 l5 l6 l7 l8 l9 l10 : Int} {g : Nat} {Θ : Th} {Q : Int → Th → Prop} (hB : (-2147483648 ≤ l10 ∧ l10 < 2147483648) ∧ (∀ (c199 : 0 < l10), (kd Θ l9 = 13) ∧ ∀ (v212 : Int) (e212 : v212 = gt (vv Θ l9) 8) (r212 : -1 ≤ v212), W2_J30_putTreeVal_215 ω d G l1 l2 l3 l4 l5 l6 l7 l8 l10 l9 v212 (g) Θ Q) ∧ (∀ (c199 : l10 ≤ 0), (kd Θ l9 = 13) ∧ ∀ (v204 : Int) (e204 : v204 = gt (vv Θ l9) 7) (r204 : -1 ≤ v204), W2_J30_putTreeVal_215 ω d G l1 l2 l3 l4 l5 l6 l7 l8 l10 l9 v204 (g) Θ Q)) : W2_J30_putTreeVal_193 ω d G l1 l2 l3 l4 l5 l6 l7 l8 l9 l10 g Θ Q := sorry
set_option maxHeartbeats 4000000 in
theorem s2_J30_putTreeVal_104 {ω : AO} {d G : Nat} {l1 l2 l3 l4 l5 l6 l7 l8 l9 l12 : Int} {g : Nat} {Θ : Th} {Q : Int → Th → Prop} (hB : (1 ≤ d) ∧ ∃ G110 : Nat, (g + G110 ≤ G) ∧ w2_J9_compareComparables ω (d - 1) G110 l6 l4 l12 Θ (fun x110 Θ110 => ∀ (L110 : Le Θ Θ110) (r110 : -2147483648 ≤ x110 ∧ x110 < 2147483648), (∀ (c116 : ¬ x110 = 0), W2_J30_putTreeVal_193 ω d G l1 l2 l3 l4 l5 l6 l7 l8 l9 x110 (g + G110) Θ110 Q) ∧ (∀ (c116 : x110 = 0), W2_J30_putTreeVal_119 ω d G l1 l2 l3 l4 l5 l6 l7 l8 l9 l12 (g + G110) Θ110 Q))) : W2_J30_putTreeVal_104 ω d G l1 l2 l3 l4 l5 l6 l7 l8 l9 l12 g Θ Q := sorry
set_option maxHeartbeats 4000000 in
theorem s2_J30_putTreeVal_119 {ω : AO} {d G : Nat} {l1 l2 l3 l4 l5 l6 l7 l8 l9 l12 : Int} {g : Nat} {Θ : Th} {Q : Int → Th → Prop} (hB : (-2147483648 ≤ l7 ∧ l7 < 2147483648) ∧ (∀ (c121 : ¬ l7 = 0), W2_J30_putTreeVal_184 ω d G l1 l2 l3 l4 l5 l6 l7 l8 l9 l12 (g) Θ Q) ∧ (∀ (c121 : l7 = 0), (kd Θ l9 = 13) ∧ ∀ (v129 : Int) (e129 : v129 = gt (vv Θ l9) 7) (r129 : -1 ≤ v129), (∀ (c135 : v129 < 0), W2_J30_putTreeVal_154 ω d G l1 l2 l3 l4 l5 l6 1 l8 l9 l12 (g) Θ Q) ∧ (∀ (c135 : 0 ≤ v129), (1 ≤ d) ∧ (kd Θ v129 = 13) ∧ ∃ G145 : Nat, (g + G145 ≤ G) ∧ w2_J30_find ω (d - 1) G145 v129 l3 l4 l6 Θ (fun x145 Θ145 => ∀ (L145 : Le Θ Θ145) (r145 : -1 ≤ x145), (∀ (c151 : 0 ≤ x145), (g + G145 ≤ G) ∧ (-1 ≤ x145) ∧ Q x145 Θ145) ∧ (∀ (c151 : x145 < 0), W2_J30_putTreeVal_154 ω d G l1 l2 l3 l4 l5 l6 1 l8 l9 l12 (g + G145) Θ145 Q))))) : W2_J30_putTreeVal_119 ω d G l1 l2 l3 l4 l5 l6 l7 l8 l9 l12 g Θ Q := sorry
set_option maxHeartbeats 4000000 in
theorem s2_J30_putTreeVal_215 {ω : AO} {d G : Nat} {l1 l2 l3 l4 l5 l6 l7 l8 l10 l13 s0 : Int} {g : Nat} {Θ : Th} {Q : Int → Th → Prop} (hB : (∀ (c218 : 0 ≤ s0), W2_J30_putTreeVal_27 ω d G l1 l2 l3 l4 l5 l6 l7 l8 s0 (g) Θ Q) ∧ (∀ (c218 : s0 < 0), (kd Θ l13 = 13) ∧ ∀ (v223 : Int) (e223 : v223 = gt (vv Θ l13) 5) (r223 : -1 ≤ v223), (1 ≤ d) ∧ (kd Θ l1 = 4) ∧ ∃ G236 : Nat, (g + G236 ≤ G) ∧ w2_J9_newTreeNode ω (d - 1) G236 l1 l3 l4 l5 v223 Θ (fun x236 Θ236 => ∀ (L236 : Le Θ Θ236) (r236 : -1 ≤ x236), (-2147483648 ≤ l10 ∧ l10 < 2147483648) ∧ (∀ (c243 : 0 < l10), (¬ fz Θ236 l13) ∧ (-1 ≤ x236) ∧ ∀ (Θ260 : Th) (t260 : Θ260 = pf Θ236 l13 8 x236), W2_J30_putTreeVal_263 ω d G l2 l8 l13 v223 x236 (g + G236) Θ260 Q) ∧ (∀ (c243 : l10 ≤ 0), (¬ fz Θ236 l13) ∧ (-1 ≤ x236) ∧ ∀ (Θ250 : Th) (t250 : Θ250 = pf Θ236 l13 7 x236), W2_J30_putTreeVal_263 ω d G l2 l8 l13 v223 x236 (g + G236) Θ250 Q)))) : W2_J30_putTreeVal_215 ω d G l1 l2 l3 l4 l5 l6 l7 l8 l10 l13 s0 g Θ Q := sorry
set_option maxHeartbeats 4000000 in
theorem s2_J30_putTreeVal_184 {ω : AO} {d G : Nat} {l1 l2 l3 l4 l5 l6 l7 l8 l9 l12 : Int} {g : Nat} {Θ : Th} {Q : Int → Th → Prop} (hB : False) : W2_J30_putTreeVal_184 ω d G l1 l2 l3 l4 l5 l6 l7 l8 l9 l12 g Θ Q := sorry
set_option maxHeartbeats 4000000 in
theorem s2_J30_putTreeVal_154 {ω : AO} {d G : Nat} {l1 l2 l3 l4 l5 l6 l7 l8 l9 l12 : Int} {g : Nat} {Θ : Th} {Q : Int → Th → Prop} (hB : (kd Θ l9 = 13) ∧ ∀ (v156 : Int) (e156 : v156 = gt (vv Θ l9) 8) (r156 : -1 ≤ v156), (∀ (c162 : v156 < 0), W2_J30_putTreeVal_184 ω d G l1 l2 l3 l4 l5 l6 l7 l8 l9 l12 (g) Θ Q) ∧ (∀ (c162 : 0 ≤ v156), (1 ≤ d) ∧ (kd Θ v156 = 13) ∧ ∃ G172 : Nat, (g + G172 ≤ G) ∧ w2_J30_find ω (d - 1) G172 v156 l3 l4 l6 Θ (fun x172 Θ172 => ∀ (L172 : Le Θ Θ172) (r172 : -1 ≤ x172), (∀ (c178 : x172 < 0), W2_J30_putTreeVal_184 ω d G l1 l2 l3 l4 l5 l6 l7 l8 l9 l12 (g + G172) Θ172 Q) ∧ (∀ (c178 : 0 ≤ x172), (g + G172 ≤ G) ∧ (-1 ≤ x172) ∧ Q x172 Θ172)))) : W2_J30_putTreeVal_154 ω d G l1 l2 l3 l4 l5 l6 l7 l8 l9 l12 g Θ Q := sorry
set_option maxHeartbeats 4000000 in
theorem s2_J30_putTreeVal_263 {ω : AO} {d G : Nat} {l2 l8 l13 l14 l15 : Int} {g : Nat} {Θ : Th} {Q : Int → Th → Prop} (hB : (kd Θ l13 = 13) ∧ (¬ fz Θ l13) ∧ (-1 ≤ l15) ∧ ∀ (Θ267 : Th) (t267 : Θ267 = pf Θ l13 5 l15), (kd Θ267 l15 = 13) ∧ (¬ fz Θ267 l15) ∧ (-1 ≤ l13) ∧ ∀ (Θ277 : Th) (t277 : Θ277 = pf Θ267 l15 9 l13), (¬ fz Θ277 l15) ∧ ∀ (Θ280 : Th) (t280 : Θ280 = pf Θ277 l15 6 l13), (∀ (c285 : l14 < 0), W2_J30_putTreeVal_298 ω d G l2 l8 l15 (g) Θ280 Q) ∧ (∀ (c285 : 0 ≤ l14), (l14 < 0 ∨ kd Θ280 l14 ∈ [13]) ∧ (kd Θ280 l14 = 13) ∧ (¬ fz Θ280 l14) ∧ ∀ (Θ295 : Th) (t295 : Θ295 = pf Θ280 l14 9 l15), W2_J30_putTreeVal_298 ω d G l2 l8 l15 (g) Θ295 Q)) : W2_J30_putTreeVal_263 ω d G l2 l8 l13 l14 l15 g Θ Q := sorry
set_option maxHeartbeats 4000000 in
theorem s2_J30_putTreeVal_298 {ω : AO} {d G : Nat} {l2 l8 l15 : Int} {g : Nat} {Θ : Th} {Q : Int → Th → Prop} (hB : (1 ≤ d) ∧ ∃ G303 : Nat, (g + G303 ≤ G) ∧ w2_J30_balanceInsertion ω (d - 1) G303 l8 l15 Θ (fun x303 Θ303 => ∀ (L303 : Le Θ Θ303) (r303 : -1 ≤ x303), ∃ G306 : Nat, (g + G303 + G306 ≤ G) ∧ w2_J30_moveRootToFront ω (d - 1) G306 l2 x303 Θ303 (fun Θ306 => ∀ (L306 : Le Θ303 Θ306), (g + G303 + G306 ≤ G) ∧ (-1 ≤ (-1)) ∧ Q (-1) Θ306))) : W2_J30_putTreeVal_298 ω d G l2 l8 l15 g Θ Q := sorry
def W2_J9_getNode_71 (ω : AO) (d G : Nat) (l1 l3 l6 : Int) (g : Nat) (Θ : Th) (Q : Int → Th → Prop) : Prop := Hid (SJ2 ω yJ9_getNode cJ9_getNode 8 (some (.object "java/util/HashMap$Node")) d G (fun Sz Θz => (eA Sz (q2 ω Θz Q))) 71 [vN, (2, l1), vN, (2, l3), vN, vN, (0, l6), vN] [] g Θ)
def W2_J9_getNode_99 (ω : AO) (d G : Nat) (l1 l4 l6 : Int) (g : Nat) (Θ : Th) (Q : Int → Th → Prop) : Prop := Hid (SJ2 ω yJ9_getNode cJ9_getNode 8 (some (.object "java/util/HashMap$Node")) d G (fun Sz Θz => (eA Sz (q2 ω Θz Q))) 99 [vN, (2, l1), vN, vN, (2, l4), vN, (0, l6), vN] [] g Θ)
def W2_J9_getNode_137 (ω : AO) (d G : Nat) (l1 l4 l6 : Int) (g : Nat) (Θ : Th) (Q : Int → Th → Prop) : Prop := Hid (SJ2 ω yJ9_getNode cJ9_getNode 8 (some (.object "java/util/HashMap$Node")) d G (fun Sz Θz => (eA Sz (q2 ω Θz Q))) 137 [vN, (2, l1), vN, vN, (2, l4), vN, (0, l6), vN] [] g Θ)
set_option maxHeartbeats 4000000 in
theorem s2_J9_getNode {ω : AO} {d G : Nat} {l0 l1 : Int} {Θ : Th} {Q : Int → Th → Prop} (hB : (kd Θ l0 = 4) ∧ ∀ (v1 : Int) (e1 : v1 = gt (vv Θ l0) 2) (r1 : -1 ≤ v1), (∀ (c6 : v1 < 0), (-1 ≤ (-1)) ∧ Q (-1) Θ) ∧ (∀ (c6 : 0 ≤ v1), (kd Θ v1 = 107) ∧ ∀ (v10 : Int) (e10 : v10 = len (vv Θ v1)) (r10 : 0 ≤ v10 ∧ v10 < 2147483648), (∀ (c14 : v10 ≤ 0), (-1 ≤ (-1)) ∧ Q (-1) Θ) ∧ (∀ (c14 : 0 < v10), (1 ≤ d) ∧ ∃ G23 : Nat, (0 + G23 ≤ G) ∧ w2_J9_hash ω (d - 1) G23 l1 Θ (fun x23 Θ23 => ∀ (L23 : Le Θ Θ23) (r23 : -2147483648 ≤ x23 ∧ x23 < 2147483648), (0 ≤ (andI (v10 - 1) x23) ∧ (andI (v10 - 1) x23) < len (vv Θ23 v1)) ∧ ∀ (v30 : Int) (e30 : v30 = gt (vv Θ23 v1) (andI (v10 - 1) x23)) (r30 : -1 ≤ v30), (∀ (c33 : v30 < 0), (0 + G23 ≤ G) ∧ (-1 ≤ (-1)) ∧ Q (-1) Θ23) ∧ (∀ (c33 : 0 ≤ v30), (kd Θ23 v30 = 12 ∨ kd Θ23 v30 = 13) ∧ ∀ (v37 : Int) (e37 : v37 = gt (vv Θ23 v30) (nfi (kd Θ23 v30) 0)) (r37 : -2147483648 ≤ v37 ∧ v37 < 2147483648), (∀ (c42 : ¬ v37 = x23), W2_J9_getNode_71 ω d G l1 v30 x23 (0 + G23) Θ23 Q) ∧ (∀ (c42 : v37 = x23), ∀ (v46 : Int) (e46 : v46 = gt (vv Θ23 v30) (nfi (kd Θ23 v30) 1)) (r46 : -1 ≤ v46), (-1 ≤ l1) ∧ (∀ (c53 : v46 = l1), (0 + G23 ≤ G) ∧ (-1 ≤ v30) ∧ Q v30 Θ23) ∧ (∀ (c53 : ¬ v46 = l1), (∀ (c57 : l1 < 0), W2_J9_getNode_71 ω d G l1 v30 x23 (0 + G23) Θ23 Q) ∧ (∀ (c57 : 0 ≤ l1), (((kd Θ23 l1 = 2) ∧ ∃ G63 : Nat, (0 + G23 + G63 ≤ G) ∧ w2_J2_equals ω (d - 1) G63 l1 v46 Θ23 (fun x63 Θ63 => ∀ (L63 : Le Θ23 Θ63) (r63 : x63 = 0 ∨ x63 = 1), (∀ (c66 : x63 = 0), W2_J9_getNode_71 ω d G l1 v30 x23 (0 + G23 + G63) Θ63 Q) ∧ (∀ (c66 : ¬ x63 = 0), (0 + G23 + G63 ≤ G) ∧ (-1 ≤ v30) ∧ Q v30 Θ63))) ∨ ((kd Θ23 l1 = 26) ∧ ∃ G63 : Nat, (0 + G23 + G63 ≤ G) ∧ w2_J33_equals ω (d - 1) G63 l1 v46 Θ23 (fun x63 Θ63 => ∀ (L63 : Le Θ23 Θ63) (r63 : x63 = 0 ∨ x63 = 1), (∀ (c66 : x63 = 0), W2_J9_getNode_71 ω d G l1 v30 x23 (0 + G23 + G63) Θ63 Q) ∧ (∀ (c66 : ¬ x63 = 0), (0 + G23 + G63 ≤ G) ∧ (-1 ≤ v30) ∧ Q v30 Θ63))) ∨ ((kd Θ23 l1 = 35) ∧ ∃ G63 : Nat, (0 + G23 + G63 ≤ G) ∧ w2_J33_equals ω (d - 1) G63 l1 v46 Θ23 (fun x63 Θ63 => ∀ (L63 : Le Θ23 Θ63) (r63 : x63 = 0 ∨ x63 = 1), (∀ (c66 : x63 = 0), W2_J9_getNode_71 ω d G l1 v30 x23 (0 + G23 + G63) Θ63 Q) ∧ (∀ (c66 : ¬ x63 = 0), (0 + G23 + G63 ≤ G) ∧ (-1 ≤ v30) ∧ Q v30 Θ63))) ∨ ((kd Θ23 l1 = 65) ∧ ∃ G63 : Nat, (0 + G23 + G63 ≤ G) ∧ w2_J33_equals ω (d - 1) G63 l1 v46 Θ23 (fun x63 Θ63 => ∀ (L63 : Le Θ23 Θ63) (r63 : x63 = 0 ∨ x63 = 1), (∀ (c66 : x63 = 0), W2_J9_getNode_71 ω d G l1 v30 x23 (0 + G23 + G63) Θ63 Q) ∧ (∀ (c66 : ¬ x63 = 0), (0 + G23 + G63 ≤ G) ∧ (-1 ≤ v30) ∧ Q v30 Θ63)))))))))))) : w2_J9_getNode ω d G l0 l1 Θ Q := sorry
set_option maxHeartbeats 4000000 in
theorem s2_J9_getNode_71 {ω : AO} {d G : Nat} {l1 l3 l6 : Int} {g : Nat} {Θ : Th} {Q : Int → Th → Prop} (hB : (kd Θ l3 = 12 ∨ kd Θ l3 = 13) ∧ ∀ (v72 : Int) (e72 : v72 = gt (vv Θ l3) (nfi (kd Θ l3) 3)) (r72 : -1 ≤ v72), (∀ (c78 : v72 < 0), (g ≤ G) ∧ (-1 ≤ (-1)) ∧ Q (-1) Θ) ∧ (∀ (c78 : 0 ≤ v72), (((l3 < 0) ∧ W2_J9_getNode_99 ω d G l1 v72 l6 (g) Θ Q) ∨ ((kd Θ l3 = 13) ∧ (l3 < 0 ∨ kd Θ l3 ∈ [13]) ∧ (1 ≤ d) ∧ ∃ G95 : Nat, (g + G95 ≤ G) ∧ w2_J30_getTreeNode ω (d - 1) G95 l3 l6 l1 Θ (fun x95 Θ95 => ∀ (L95 : Le Θ Θ95) (r95 : -1 ≤ x95), (g + G95 ≤ G) ∧ (-1 ≤ x95) ∧ Q x95 Θ95)) ∨ ((kd Θ l3 = 12) ∧ W2_J9_getNode_99 ω d G l1 v72 l6 (g) Θ Q)))) : W2_J9_getNode_71 ω d G l1 l3 l6 g Θ Q := sorry
set_option maxHeartbeats 4000000 in
theorem s2_J9_getNode_99 {ω : AO} {d G : Nat} {l1 l4 l6 : Int} {g : Nat} {Θ : Th} {Q : Int → Th → Prop} (hB : (kd Θ l4 = 12 ∨ kd Θ l4 = 13) ∧ ∀ (v101 : Int) (e101 : v101 = gt (vv Θ l4) (nfi (kd Θ l4) 0)) (r101 : -2147483648 ≤ v101 ∧ v101 < 2147483648), (-2147483648 ≤ l6 ∧ l6 < 2147483648) ∧ (∀ (c106 : ¬ v101 = l6), W2_J9_getNode_137 ω d G l1 l4 l6 (g) Θ Q) ∧ (∀ (c106 : v101 = l6), ∀ (v111 : Int) (e111 : v111 = gt (vv Θ l4) (nfi (kd Θ l4) 1)) (r111 : -1 ≤ v111), (-1 ≤ l1) ∧ (∀ (c118 : v111 = l1), (g ≤ G) ∧ (-1 ≤ l4) ∧ Q l4 Θ) ∧ (∀ (c118 : ¬ v111 = l1), (∀ (c122 : l1 < 0), W2_J9_getNode_137 ω d G l1 l4 l6 (g) Θ Q) ∧ (∀ (c122 : 0 ≤ l1), (1 ≤ d) ∧ (((kd Θ l1 = 2) ∧ ∃ G128 : Nat, (g + G128 ≤ G) ∧ w2_J2_equals ω (d - 1) G128 l1 v111 Θ (fun x128 Θ128 => ∀ (L128 : Le Θ Θ128) (r128 : x128 = 0 ∨ x128 = 1), (∀ (c131 : x128 = 0), W2_J9_getNode_137 ω d G l1 l4 l6 (g + G128) Θ128 Q) ∧ (∀ (c131 : ¬ x128 = 0), (g + G128 ≤ G) ∧ (-1 ≤ l4) ∧ Q l4 Θ128))) ∨ ((kd Θ l1 = 26) ∧ ∃ G128 : Nat, (g + G128 ≤ G) ∧ w2_J33_equals ω (d - 1) G128 l1 v111 Θ (fun x128 Θ128 => ∀ (L128 : Le Θ Θ128) (r128 : x128 = 0 ∨ x128 = 1), (∀ (c131 : x128 = 0), W2_J9_getNode_137 ω d G l1 l4 l6 (g + G128) Θ128 Q) ∧ (∀ (c131 : ¬ x128 = 0), (g + G128 ≤ G) ∧ (-1 ≤ l4) ∧ Q l4 Θ128))) ∨ ((kd Θ l1 = 35) ∧ ∃ G128 : Nat, (g + G128 ≤ G) ∧ w2_J33_equals ω (d - 1) G128 l1 v111 Θ (fun x128 Θ128 => ∀ (L128 : Le Θ Θ128) (r128 : x128 = 0 ∨ x128 = 1), (∀ (c131 : x128 = 0), W2_J9_getNode_137 ω d G l1 l4 l6 (g + G128) Θ128 Q) ∧ (∀ (c131 : ¬ x128 = 0), (g + G128 ≤ G) ∧ (-1 ≤ l4) ∧ Q l4 Θ128))) ∨ ((kd Θ l1 = 65) ∧ ∃ G128 : Nat, (g + G128 ≤ G) ∧ w2_J33_equals ω (d - 1) G128 l1 v111 Θ (fun x128 Θ128 => ∀ (L128 : Le Θ Θ128) (r128 : x128 = 0 ∨ x128 = 1), (∀ (c131 : x128 = 0), W2_J9_getNode_137 ω d G l1 l4 l6 (g + G128) Θ128 Q) ∧ (∀ (c131 : ¬ x128 = 0), (g + G128 ≤ G) ∧ (-1 ≤ l4) ∧ Q l4 Θ128)))))))) : W2_J9_getNode_99 ω d G l1 l4 l6 g Θ Q := sorry
set_option maxHeartbeats 4000000 in
theorem s2_J9_getNode_137 {ω : AO} {d G : Nat} {l1 l4 l6 : Int} {g : Nat} {Θ : Th} {Q : Int → Th → Prop} (hB : (kd Θ l4 = 12 ∨ kd Θ l4 = 13) ∧ ∀ (v139 : Int) (e139 : v139 = gt (vv Θ l4) (nfi (kd Θ l4) 3)) (r139 : -1 ≤ v139), (∀ (c145 : 0 ≤ v139), W2_J9_getNode_99 ω d G l1 v139 l6 (g) Θ Q) ∧ (∀ (c145 : v139 < 0), (g ≤ G) ∧ (-1 ≤ (-1)) ∧ Q (-1) Θ)) : W2_J9_getNode_137 ω d G l1 l4 l6 g Θ Q := sorry
set_option maxHeartbeats 4000000 in
theorem s2_J9_get {ω : AO} {d G : Nat} {l0 l1 : Int} {Θ : Th} {Q : Int → Th → Prop} (hB : (1 ≤ d) ∧ (kd Θ l0 = 4) ∧ ∃ G2 : Nat, (0 + G2 ≤ G) ∧ w2_J9_getNode ω (d - 1) G2 l0 l1 Θ (fun x2 Θ2 => ∀ (L2 : Le Θ Θ2) (r2 : -1 ≤ x2), (∀ (c7 : 0 ≤ x2), (kd Θ2 x2 = 12 ∨ kd Θ2 x2 = 13) ∧ ∀ (v15 : Int) (e15 : v15 = gt (vv Θ2 x2) (nfi (kd Θ2 x2) 2)) (r15 : -1 ≤ v15), (0 + G2 ≤ G) ∧ Q v15 Θ2) ∧ (∀ (c7 : x2 < 0), (0 + G2 ≤ G) ∧ (-1 ≤ (-1)) ∧ Q (-1) Θ2))) : w2_J9_get ω d G l0 l1 Θ Q := sorry
def W2_J9_resize_15 (ω : AO) (d G : Nat) (l0 l1 s0 : Int) (g : Nat) (Θ : Th) (Q : Int → Th → Prop) : Prop := Hid (SJ2 ω yJ9_resize cJ9_resize 14 (some (.array (Jvm.ClassFile.FieldType.object "java/util/HashMap$Node"))) d G (fun Sz Θz => (eA Sz (q2 ω Θz Q))) 15 [(2, l0), (2, l1), vN, vN, vN, vN, vN, vN, vN, vN, vN, vN, vN, vN] [(0, s0)] g Θ)
def W2_J9_resize_85 (ω : AO) (d G : Nat) (l0 l1 l2 l4 l5 : Int) (g : Nat) (Θ : Th) (Q : Int → Th → Prop) : Prop := Hid (SJ2 ω yJ9_resize cJ9_resize 14 (some (.array (Jvm.ClassFile.FieldType.object "java/util/HashMap$Node"))) d G (fun Sz Θz => (eA Sz (q2 ω Θz Q))) 85 [(2, l0), (2, l1), (0, l2), vN, (0, l4), (0, l5), vN, vN, vN, vN, vN, vN, vN, vN] [] g Θ)
def W2_J9_resize_125 (ω : AO) (d G : Nat) (l0 l1 l2 l4 l5 : Int) (g : Nat) (Θ : Th) (Q : Int → Th → Prop) : Prop := Hid (SJ2 ω yJ9_resize cJ9_resize 14 (some (.array (Jvm.ClassFile.FieldType.object "java/util/HashMap$Node"))) d G (fun Sz Θz => (eA Sz (q2 ω Θz Q))) 125 [(2, l0), (2, l1), (0, l2), vN, (0, l4), (0, l5), vN, vN, vN, vN, vN, vN, vN, vN] [] g Θ)
def W2_J9_resize_151 (ω : AO) (d G : Nat) (l0 l1 l2 l4 l6 l7 : Int) (g : Nat) (Θ : Th) (Q : Int → Th → Prop) : Prop := Hid (SJ2 ω yJ9_resize cJ9_resize 14 (some (.array (Jvm.ClassFile.FieldType.object "java/util/HashMap$Node"))) d G (fun Sz Θz => (eA Sz (q2 ω Θz Q))) 151 [(2, l0), (2, l1), (0, l2), vN, (0, l4), vN, (2, l6), (0, l7), vN, vN, vN, vN, vN, vN] [] g Θ)
def W2_J9_resize_235 (ω : AO) (d G : Nat) (l0 l1 l2 l4 l6 l7 l8 l9 l10 l11 l12 : Int) (g : Nat) (Θ : Th) (Q : Int → Th → Prop) : Prop := Hid (SJ2 ω yJ9_resize cJ9_resize 14 (some (.array (Jvm.ClassFile.FieldType.object "java/util/HashMap$Node"))) d G (fun Sz Θz => (eA Sz (q2 ω Θz Q))) 235 [(2, l0), (2, l1), (0, l2), vN, (0, l4), vN, (2, l6), (0, l7), (2, l8), (2, l9), (2, l10), (2, l11), (2, l12), vN] [] g Θ)
def W2_J9_resize_297 (ω : AO) (d G : Nat) (l0 l1 l2 l4 l6 l7 l8 l9 l10 l11 l13 : Int) (g : Nat) (Θ : Th) (Q : Int → Th → Prop) : Prop := Hid (SJ2 ω yJ9_resize cJ9_resize 14 (some (.array (Jvm.ClassFile.FieldType.object "java/util/HashMap$Node"))) d G (fun Sz Θz => (eA Sz (q2 ω Θz Q))) 297 [(2, l0), (2, l1), (0, l2), vN, (0, l4), vN, (2, l6), (0, l7), (2, l8), (2, l9), (2, l10), (2, l11), vN, (2, l13)] [] g Θ)
def W2_J9_resize_271 (ω : AO) (d G : Nat) (l0 l1 l2 l4 l6 l7 l8 l9 l11 l12 l13 : Int) (g : Nat) (Θ : Th) (Q : Int → Th → Prop) : Prop := Hid (SJ2 ω yJ9_resize cJ9_resize 14 (some (.array (Jvm.ClassFile.FieldType.object "java/util/HashMap$Node"))) d G (fun Sz Θz => (eA Sz (q2 ω Θz Q))) 271 [(2, l0), (2, l1), (0, l2), vN, (0, l4), vN, (2, l6), (0, l7), (2, l8), (2, l9), vN, (2, l11), (2, l12), (2, l13)] [] g Θ)
def W2_J9_resize_301 (ω : AO) (d G : Nat) (l0 l1 l2 l4 l6 l7 l9 l10 l11 l12 l13 : Int) (g : Nat) (Θ : Th) (Q : Int → Th → Prop) : Prop := Hid (SJ2 ω yJ9_resize cJ9_resize 14 (some (.array (Jvm.ClassFile.FieldType.object "java/util/HashMap$Node"))) d G (fun Sz Θz => (eA Sz (q2 ω Θz Q))) 301 [(2, l0), (2, l1), (0, l2), vN, (0, l4), vN, (2, l6), (0, l7), vN, (2, l9), (2, l10), (2, l11), (2, l12), (2, l13)] [] g Θ)
def W2_J9_resize_327 (ω : AO) (d G : Nat) (l0 l1 l2 l4 l6 l7 l11 l12 : Int) (g : Nat) (Θ : Th) (Q : Int → Th → Prop) : Prop := Hid (SJ2 ω yJ9_resize cJ9_resize 14 (some (.array (Jvm.ClassFile.FieldType.object "java/util/HashMap$Node"))) d G (fun Sz Θz => (eA Sz (q2 ω Θz Q))) 327 [(2, l0), (2, l1), (0, l2), vN, (0, l4), vN, (2, l6), (0, l7), vN, vN, vN, (2, l11), (2, l12), vN] [] g Θ)
set_option maxHeartbeats 4000000 in
theorem s2_J9_resize {ω : AO} {d G : Nat} {l0 : Int} {Θ : Th} {Q : Int → Th → Prop} (hB : (kd Θ l0 = 4) ∧ ∀ (v1 : Int) (e1 : v1 = gt (vv Θ l0) 2) (r1 : -1 ≤ v1), (∀ (c6 : 0 ≤ v1), (kd Θ v1 = 107) ∧ ∀ (v14 : Int) (e14 : v14 = len (vv Θ v1)) (r14 : 0 ≤ v14 ∧ v14 < 2147483648), W2_J9_resize_15 ω d G l0 v1 v14 (0) Θ Q) ∧ (∀ (c6 : v1 < 0), W2_J9_resize_15 ω d G l0 v1 0 (0) Θ Q)) : w2_J9_resize ω d G l0 Θ Q := sorry
set_option maxHeartbeats 4000000 in
theorem s2_J9_resize_15 {ω : AO} {d G : Nat} {l0 l1 s0 : Int} {g : Nat} {Θ : Th} {Q : Int → Th → Prop} (hB : (kd Θ l0 = 4) ∧ ∀ (v17 : Int) (e17 : v17 = gt (vv Θ l0) 6) (r17 : -2147483648 ≤ v17 ∧ v17 < 2147483648), (-2147483648 ≤ s0 ∧ s0 < 2147483648) ∧ (∀ (c25 : s0 ≤ 0), (∀ (c68 : v17 ≤ 0), W2_J9_resize_85 ω d G l0 l1 s0 16 12 (g) Θ Q) ∧ (∀ (c68 : 0 < v17), W2_J9_resize_85 ω d G l0 l1 s0 v17 0 (g) Θ Q)) ∧ (∀ (c25 : 0 < s0), (∀ (c31 : s0 < 1073741824), (-2147483648 ≤ (s0 * 2) ∧ (s0 * 2) < 2147483648) ∧ (∀ (c50 : 1073741824 ≤ (s0 * 2)), W2_J9_resize_85 ω d G l0 l1 s0 ((s0 * 2)) 0 (g) Θ Q) ∧ (∀ (c50 : (s0 * 2) < 1073741824), (∀ (c56 : s0 < 16), W2_J9_resize_85 ω d G l0 l1 s0 ((s0 * 2)) 0 (g) Θ Q) ∧ (∀ (c56 : 16 ≤ s0), W2_J9_resize_85 ω d G l0 l1 s0 ((s0 * 2)) ((v17 * 2)) (g) Θ Q))) ∧ (∀ (c31 : 1073741824 ≤ s0), (¬ fz Θ l0) ∧ ∀ (Θ37 : Th) (t37 : Θ37 = pf Θ l0 6 2147483647), (g ≤ G) ∧ (-1 ≤ l1) ∧ Q l1 Θ37))) : W2_J9_resize_15 ω d G l0 l1 s0 g Θ Q := sorry
set_option maxHeartbeats 4000000 in
theorem s2_J9_resize_85 {ω : AO} {d G : Nat} {l0 l1 l2 l4 l5 : Int} {g : Nat} {Θ : Th} {Q : Int → Th → Prop} (hB : (-2147483648 ≤ l5 ∧ l5 < 2147483648) ∧ (∀ (c87 : ¬ l5 = 0), W2_J9_resize_125 ω d G l0 l1 l2 l4 l5 (g) Θ Q) ∧ (∀ (c87 : l5 = 0), False)) : W2_J9_resize_85 ω d G l0 l1 l2 l4 l5 g Θ Q := sorry
set_option maxHeartbeats 4000000 in
theorem s2_J9_resize_125 {ω : AO} {d G : Nat} {l0 l1 l2 l4 l5 : Int} {g : Nat} {Θ : Th} {Q : Int → Th → Prop} (hB : (kd Θ l0 = 4) ∧ (¬ fz Θ l0) ∧ (-2147483648 ≤ l5 ∧ l5 < 2147483648) ∧ ∀ (Θ128 : Th) (t128 : Θ128 = pf Θ l0 6 l5), (0 ≤ l4) ∧ (l4 ≤ 60000000) ∧ (g + ((l4).toNat / 5 + 2) ≤ G) ∧ ∀ (v133 : Int) (Θ133 : Th) (u133 : nt Θ128 ≤ v133 ∧ 0 ≤ v133) (b133 : Bl Θ128) (t133 : Θ133 = nu Θ128 v133 (107, List.replicate (l4).toNat (-1), 0, 0)), (¬ fz Θ133 l0) ∧ ∀ (Θ141 : Th) (t141 : Θ141 = pf Θ133 l0 2 v133), (∀ (c145 : l1 < 0), Q v133 Θ141) ∧ (∀ (c145 : 0 ≤ l1), W2_J9_resize_151 ω d G l0 l1 l2 l4 v133 0 (g + ((l4).toNat / 5 + 2)) Θ141 Q)) : W2_J9_resize_125 ω d G l0 l1 l2 l4 l5 g Θ Q := sorry
set_option maxHeartbeats 4000000 in
theorem s2_J9_resize_151 {ω : AO} {d G : Nat} {l0 l1 l2 l4 l6 l7 : Int} {g : Nat} {Θ : Th} {Q : Int → Th → Prop} (hB : (-2147483648 ≤ l7 ∧ l7 < 2147483648) ∧ (-2147483648 ≤ l2 ∧ l2 < 2147483648) ∧ (∀ (c154 : l2 ≤ l7), (g ≤ G) ∧ (-1 ≤ l6) ∧ Q l6 Θ) ∧ (∀ (c154 : l7 < l2), (kd Θ l1 = 107) ∧ (0 ≤ l7 ∧ l7 < len (vv Θ l1)) ∧ ∀ (v160 : Int) (e160 : v160 = gt (vv Θ l1) l7) (r160 : -1 ≤ v160), (∀ (c164 : v160 < 0), W2_J9_resize_151 ω d G l0 l1 l2 l4 l6 ((l7 + 1)) (g) Θ Q) ∧ (∀ (c164 : 0 ≤ v160), (¬ fz Θ l1) ∧ ((-1) = -1 ∨ kd Θ (-1) ∈ [12, 13]) ∧ ∀ (Θ171 : Th) (t171 : Θ171 = pf Θ l1 l7 (-1)), (kd Θ171 v160 = 12 ∨ kd Θ171 v160 = 13) ∧ ∀ (v174 : Int) (e174 : v174 = gt (vv Θ171 v160) (nfi (kd Θ171 v160) 3)) (r174 : -1 ≤ v174), (∀ (c177 : 0 ≤ v174), (((v160 < 0) ∧ W2_J9_resize_235 ω d G l0 l1 l2 l4 l6 l7 v160 ((-1)) ((-1)) ((-1)) ((-1)) (g) Θ171 Q) ∨ ((kd Θ171 v160 = 13) ∧ (v160 < 0 ∨ kd Θ171 v160 ∈ [13]) ∧ (1 ≤ d) ∧ ∃ G217 : Nat, (g + G217 ≤ G) ∧ w2_J30_split ω (d - 1) G217 v160 l0 l6 l7 l2 Θ171 (fun Θ217 => ∀ (L217 : Le Θ171 Θ217), W2_J9_resize_151 ω d G l0 l1 l2 l4 l6 ((l7 + 1)) (g + G217) Θ217 Q)) ∨ ((kd Θ171 v160 = 12) ∧ W2_J9_resize_235 ω d G l0 l1 l2 l4 l6 l7 v160 ((-1)) ((-1)) ((-1)) ((-1)) (g) Θ171 Q))) ∧ (∀ (c177 : v174 < 0), ∀ (v184 : Int) (e184 : v184 = gt (vv Θ171 v160) (nfi (kd Θ171 v160) 0)) (r184 : -2147483648 ≤ v184 ∧ v184 < 2147483648), (kd Θ171 l6 = 107) ∧ (¬ fz Θ171 l6) ∧ (0 ≤ (andI v184 (l4 - 1)) ∧ (andI v184 (l4 - 1)) < len (vv Θ171 l6)) ∧ (v160 = -1 ∨ kd Θ171 v160 ∈ [12, 13]) ∧ ∀ (Θ194 : Th) (t194 : Θ194 = pf Θ171 l6 (andI v184 (l4 - 1)) v160), W2_J9_resize_151 ω d G l0 l1 l2 l4 l6 ((l7 + 1)) (g) Θ194 Q)))) : W2_J9_resize_151 ω d G l0 l1 l2 l4 l6 l7 g Θ Q := sorry
set_option maxHeartbeats 4000000 in
theorem s2_J9_resize_235 {ω : AO} {d G : Nat} {l0 l1 l2 l4 l6 l7 l8 l9 l10 l11 l12 : Int} {g : Nat} {Θ : Th} {Q : Int → Th → Prop} (hB : (kd Θ l8 = 12 ∨ kd Θ l8 = 13) ∧ ∀ (v237 : Int) (e237 : v237 = gt (vv Θ l8) (nfi (kd Θ l8) 3)) (r237 : -1 ≤ v237), ∀ (v244 : Int) (e244 : v244 = gt (vv Θ l8) (nfi (kd Θ l8) 0)) (r244 : -2147483648 ≤ v244 ∧ v244 < 2147483648), (∀ (c249 : ¬ (andI v244 l2) = 0), (∀ (c280 : 0 ≤ l12), (kd Θ l12 = 12 ∨ kd Θ l12 = 13) ∧ (¬ fz Θ l12) ∧ (-1 ≤ l8) ∧ ∀ (Θ294 : Th) (t294 : Θ294 = pf Θ l12 (nfi (kd Θ l12) 3) l8), W2_J9_resize_297 ω d G l0 l1 l2 l4 l6 l7 l8 l9 l10 l11 v237 (g) Θ294 Q) ∧ (∀ (c280 : l12 < 0), W2_J9_resize_297 ω d G l0 l1 l2 l4 l6 l7 l8 l9 l10 l8 v237 (g) Θ Q)) ∧ (∀ (c249 : (andI v244 l2) = 0), (∀ (c254 : 0 ≤ l10), (kd Θ l10 = 12 ∨ kd Θ l10 = 13) ∧ (¬ fz Θ l10) ∧ (-1 ≤ l8) ∧ ∀ (Θ268 : Th) (t268 : Θ268 = pf Θ l10 (nfi (kd Θ l10) 3) l8), W2_J9_resize_271 ω d G l0 l1 l2 l4 l6 l7 l8 l9 l11 l12 v237 (g) Θ268 Q) ∧ (∀ (c254 : l10 < 0), W2_J9_resize_271 ω d G l0 l1 l2 l4 l6 l7 l8 l8 l11 l12 v237 (g) Θ Q))) : W2_J9_resize_235 ω d G l0 l1 l2 l4 l6 l7 l8 l9 l10 l11 l12 g Θ Q := sorry
set_option maxHeartbeats 4000000 in
theorem s2_J9_resize_297 {ω : AO} {d G : Nat} {l0 l1 l2 l4 l6 l7 l8 l9 l10 l11 l13 : Int} {g : Nat} {Θ : Th} {Q : Int → Th → Prop} (hB : W2_J9_resize_301 ω d G l0 l1 l2 l4 l6 l7 l9 l10 l11 l8 l13 (g) Θ Q) : W2_J9_resize_297 ω d G l0 l1 l2 l4 l6 l7 l8 l9 l10 l11 l13 g Θ Q := sorry
set_option maxHeartbeats 4000000 in
theorem s2_J9_resize_271 {ω : AO} {d G : Nat} {l0 l1 l2 l4 l6 l7 l8 l9 l11 l12 l13 : Int} {g : Nat} {Θ : Th} {Q : Int → Th → Prop} (hB : W2_J9_resize_301 ω d G l0 l1 l2 l4 l6 l7 l9 l8 l11 l12 l13 (g) Θ Q) : W2_J9_resize_271 ω d G l0 l1 l2 l4 l6 l7 l8 l9 l11 l12 l13 g Θ Q := sorry
set_option maxHeartbeats 4000000 in
theorem s2_J9_resize_301 {ω : AO} {d G : Nat} {l0 l1 l2 l4 l6 l7 l9 l10 l11 l12 l13 : Int} {g : Nat} {Θ : Th} {Q : Int → Th → Prop} (hB : (∀ (c306 : 0 ≤ l13), W2_J9_resize_235 ω d G l0 l1 l2 l4 l6 l7 l13 l9 l10 l11 l12 (g) Θ Q) ∧ (∀ (c306 : l13 < 0), (∀ (c311 : l10 < 0), W2_J9_resize_327 ω d G l0 l1 l2 l4 l6 l7 l11 l12 (g) Θ Q) ∧ (∀ (c311 : 0 ≤ l10), (kd Θ l10 = 12 ∨ kd Θ l10 = 13) ∧ (¬ fz Θ l10) ∧ (-1 ≤ (-1)) ∧ ∀ (Θ317 : Th) (t317 : Θ317 = pf Θ l10 (nfi (kd Θ l10) 3) (-1)), (kd Θ317 l6 = 107) ∧ (¬ fz Θ317 l6) ∧ (0 ≤ l7 ∧ l7 < len (vv Θ317 l6)) ∧ (l9 = -1 ∨ kd Θ317 l9 ∈ [12, 13]) ∧ ∀ (Θ326 : Th) (t326 : Θ326 = pf Θ317 l6 l7 l9), W2_J9_resize_327 ω d G l0 l1 l2 l4 l6 l7 l11 l12 (g) Θ326 Q))) : W2_J9_resize_301 ω d G l0 l1 l2 l4 l6 l7 l9 l10 l11 l12 l13 g Θ Q := sorry
set_option maxHeartbeats 4000000 in
theorem s2_J9_resize_327 {ω : AO} {d G : Nat} {l0 l1 l2 l4 l6 l7 l11 l12 : Int} {g : Nat} {Θ : Th} {Q : Int → Th → Prop} (hB : (∀ (c329 : l12 < 0), W2_J9_resize_151 ω d G l0 l1 l2 l4 l6 ((l7 + 1)) (g) Θ Q) ∧ (∀ (c329 : 0 ≤ l12), (kd Θ l12 = 12 ∨ kd Θ l12 = 13) ∧ (¬ fz Θ l12) ∧ (-1 ≤ (-1)) ∧ ∀ (Θ335 : Th) (t335 : Θ335 = pf Θ l12 (nfi (kd Θ l12) 3) (-1)), (kd Θ335 l6 = 107) ∧ (¬ fz Θ335 l6) ∧ (0 ≤ (l7 + l2) ∧ (l7 + l2) < len (vv Θ335 l6)) ∧ (l11 = -1 ∨ kd Θ335 l11 ∈ [12, 13]) ∧ ∀ (Θ346 : Th) (t346 : Θ346 = pf Θ335 l6 (l7 + l2) l11), W2_J9_resize_151 ω d G l0 l1 l2 l4 l6 ((l7 + 1)) (g) Θ346 Q)) : W2_J9_resize_327 ω d G l0 l1 l2 l4 l6 l7 l11 l12 g Θ Q := sorry
def W2_J9_treeifyBin_13 (ω : AO) (d G : Nat) (l0 : Int) (g : Nat) (Θ : Th) (Q : Th → Prop) : Prop := Hid (SJ2 ω yJ9_treeifyBin cJ9_treeifyBin 9 none d G (fun Sz Θz => (eU Sz (q2U ω Θz Q))) 13 [(2, l0), vN, vN, vN, vN, vN, vN, vN, vN] [] g Θ)
def W2_J9_treeifyBin_43 (ω : AO) (d G : Nat) (l0 l1 l4 l5 l6 l7 : Int) (g : Nat) (Θ : Th) (Q : Th → Prop) : Prop := Hid (SJ2 ω yJ9_treeifyBin cJ9_treeifyBin 9 none d G (fun Sz Θz => (eU Sz (q2U ω Θz Q))) 43 [(2, l0), (2, l1), vN, vN, (0, l4), (2, l5), (2, l6), (2, l7), vN] [] g Θ)
def W2_J9_treeifyBin_78 (ω : AO) (d G : Nat) (l0 l1 l4 l5 l6 l8 : Int) (g : Nat) (Θ : Th) (Q : Th → Prop) : Prop := Hid (SJ2 ω yJ9_treeifyBin cJ9_treeifyBin 9 none d G (fun Sz Θz => (eU Sz (q2U ω Θz Q))) 78 [(2, l0), (2, l1), vN, vN, (0, l4), (2, l5), (2, l6), vN, (2, l8)] [] g Θ)
set_option maxHeartbeats 4000000 in
theorem s2_J9_treeifyBin {ω : AO} {d G : Nat} {l0 l1 l2 : Int} {Θ : Th} {Q : Th → Prop} (hB : (∀ (c1 : l1 < 0), W2_J9_treeifyBin_13 ω d G l0 (0) Θ Q) ∧ (∀ (c1 : 0 ≤ l1), (kd Θ l1 = 107) ∧ ∀ (v5 : Int) (e5 : v5 = len (vv Θ l1)) (r5 : 0 ≤ v5 ∧ v5 < 2147483648), (∀ (c10 : 64 ≤ v5), (0 ≤ (andI (v5 - 1) l2) ∧ (andI (v5 - 1) l2) < len (vv Θ l1)) ∧ ∀ (v30 : Int) (e30 : v30 = gt (vv Θ l1) (andI (v5 - 1) l2)) (r30 : -1 ≤ v30), (∀ (c34 : v30 < 0), Q Θ) ∧ (∀ (c34 : 0 ≤ v30), W2_J9_treeifyBin_43 ω d G l0 l1 ((andI (v5 - 1) l2)) v30 ((-1)) ((-1)) (0) Θ Q)) ∧ (∀ (c10 : v5 < 64), W2_J9_treeifyBin_13 ω d G l0 (0) Θ Q))) : w2_J9_treeifyBin ω d G l0 l1 l2 Θ Q := sorry
set_option maxHeartbeats 4000000 in
theorem s2_J9_treeifyBin_13 {ω : AO} {d G : Nat} {l0 : Int} {g : Nat} {Θ : Th} {Q : Th → Prop} (hB : (1 ≤ d) ∧ (kd Θ l0 = 4) ∧ ∃ G14 : Nat, (g + G14 ≤ G) ∧ w2_J9_resize ω (d - 1) G14 l0 Θ (fun x14 Θ14 => ∀ (L14 : Le Θ Θ14) (r14 : -1 ≤ x14), (g + G14 ≤ G) ∧ Q Θ14)) : W2_J9_treeifyBin_13 ω d G l0 g Θ Q := sorry
set_option maxHeartbeats 4000000 in
theorem s2_J9_treeifyBin_43 {ω : AO} {d G : Nat} {l0 l1 l4 l5 l6 l7 : Int} {g : Nat} {Θ : Th} {Q : Th → Prop} (hB : (1 ≤ d) ∧ (kd Θ l0 = 4) ∧ ∃ G47 : Nat, (g + G47 ≤ G) ∧ w2_J9_replacementTreeNode ω (d - 1) G47 l0 l5 (-1) Θ (fun x47 Θ47 => ∀ (L47 : Le Θ Θ47) (r47 : -1 ≤ x47), (∀ (c54 : 0 ≤ l7), (kd Θ47 x47 = 13) ∧ (¬ fz Θ47 x47) ∧ (-1 ≤ l7) ∧ ∀ (Θ68 : Th) (t68 : Θ68 = pf Θ47 x47 9 l7), (kd Θ68 l7 = 13) ∧ (¬ fz Θ68 l7) ∧ (-1 ≤ x47) ∧ ∀ (Θ75 : Th) (t75 : Θ75 = pf Θ68 l7 5 x47), W2_J9_treeifyBin_78 ω d G l0 l1 l4 l5 l6 x47 (g + G47) Θ75 Q) ∧ (∀ (c54 : l7 < 0), W2_J9_treeifyBin_78 ω d G l0 l1 l4 l5 x47 x47 (g + G47) Θ47 Q))) : W2_J9_treeifyBin_43 ω d G l0 l1 l4 l5 l6 l7 g Θ Q := sorry
set_option maxHeartbeats 4000000 in
theorem s2_J9_treeifyBin_78 {ω : AO} {d G : Nat} {l0 l1 l4 l5 l6 l8 : Int} {g : Nat} {Θ : Th} {Q : Th → Prop} (hB : (kd Θ l5 = 12 ∨ kd Θ l5 = 13) ∧ ∀ (v84 : Int) (e84 : v84 = gt (vv Θ l5) (nfi (kd Θ l5) 3)) (r84 : -1 ≤ v84), (∀ (c90 : 0 ≤ v84), W2_J9_treeifyBin_43 ω d G l0 l1 l4 v84 l6 l8 (g) Θ Q) ∧ (∀ (c90 : v84 < 0), (kd Θ l1 = 107) ∧ (¬ fz Θ l1) ∧ (0 ≤ l4 ∧ l4 < len (vv Θ l1)) ∧ (l6 = -1 ∨ kd Θ l6 ∈ [12, 13]) ∧ ∀ (Θ99 : Th) (t99 : Θ99 = pf Θ l1 l4 l6), (∀ (c100 : l6 < 0), (g ≤ G) ∧ Q Θ99) ∧ (∀ (c100 : 0 ≤ l6), (1 ≤ d) ∧ (kd Θ99 l6 = 13) ∧ ∃ G106 : Nat, (g + G106 ≤ G) ∧ w2_J30_treeify ω (d - 1) G106 l6 l1 Θ99 (fun Θ106 => ∀ (L106 : Le Θ99 Θ106), (g + G106 ≤ G) ∧ Q Θ106)))) : W2_J9_treeifyBin_78 ω d G l0 l1 l4 l5 l6 l8 g Θ Q := sorry
def W2_J9_putVal_19 (ω : AO) (d G : Nat) (l0 l1 l2 l3 l4 l5 : Int) (g : Nat) (Θ : Th) (Q : Int → Th → Prop) : Prop := Hid (SJ2 ω yJ9_putVal cJ9_putVal 13 (some (.object "java/lang/Object")) d G (fun Sz Θz => (eA Sz (q2 ω Θz Q))) 19 [(2, l0), (0, l1), (2, l2), (2, l3), (0, l4), (0, l5), vN, vN, vN, vN, vN, vN, vN] [] g Θ)
def W2_J9_putVal_29 (ω : AO) (d G : Nat) (l0 l1 l2 l3 l4 l5 l6 l8 : Int) (g : Nat) (Θ : Th) (Q : Int → Th → Prop) : Prop := Hid (SJ2 ω yJ9_putVal cJ9_putVal 13 (some (.object "java/lang/Object")) d G (fun Sz Θz => (eA Sz (q2 ω Θz Q))) 29 [(2, l0), (0, l1), (2, l2), (2, l3), (0, l4), (0, l5), (2, l6), vN, (0, l8), vN, vN, vN, vN] [] g Θ)
def W2_J9_putVal_104 (ω : AO) (d G : Nat) (l0 l1 l2 l3 l4 l5 l6 l7 : Int) (g : Nat) (Θ : Th) (Q : Int → Th → Prop) : Prop := Hid (SJ2 ω yJ9_putVal cJ9_putVal 13 (some (.object "java/lang/Object")) d G (fun Sz Θz => (eA Sz (q2 ω Θz Q))) 104 [(2, l0), (0, l1), (2, l2), (2, l3), (0, l4), (0, l5), (2, l6), (2, l7), vN, vN, vN, vN, vN] [] g Θ)
def W2_J9_putVal_97 (ω : AO) (d G : Nat) (l0 l3 l4 l5 l7 : Int) (g : Nat) (Θ : Th) (Q : Int → Th → Prop) : Prop := Hid (SJ2 ω yJ9_putVal cJ9_putVal 13 (some (.object "java/lang/Object")) d G (fun Sz Θz => (eA Sz (q2 ω Θz Q))) 97 [(2, l0), vN, vN, (2, l3), (0, l4), (0, l5), vN, (2, l7), vN, vN, vN, vN, vN] [] g Θ)
def W2_J9_putVal_259 (ω : AO) (d G : Nat) (l0 l5 : Int) (g : Nat) (Θ : Th) (Q : Int → Th → Prop) : Prop := Hid (SJ2 ω yJ9_putVal cJ9_putVal 13 (some (.object "java/lang/Object")) d G (fun Sz Θz => (eA Sz (q2 ω Θz Q))) 259 [(2, l0), vN, vN, vN, vN, (0, l5), vN, vN, vN, vN, vN, vN, vN] [] g Θ)
def W2_J9_putVal_134 (ω : AO) (d G : Nat) (l0 l1 l2 l3 l4 l5 l6 l7 l12 : Int) (g : Nat) (Θ : Th) (Q : Int → Th → Prop) : Prop := Hid (SJ2 ω yJ9_putVal cJ9_putVal 13 (some (.object "java/lang/Object")) d G (fun Sz Θz => (eA Sz (q2 ω Θz Q))) 134 [(2, l0), (0, l1), (2, l2), (2, l3), (0, l4), (0, l5), (2, l6), (2, l7), vN, vN, vN, vN, (0, l12)] [] g Θ)
def W2_J9_putVal_222 (ω : AO) (d G : Nat) (l0 l3 l4 l5 l10 : Int) (g : Nat) (Θ : Th) (Q : Int → Th → Prop) : Prop := Hid (SJ2 ω yJ9_putVal cJ9_putVal 13 (some (.object "java/lang/Object")) d G (fun Sz Θz => (eA Sz (q2 ω Θz Q))) 222 [(2, l0), vN, vN, (2, l3), (0, l4), (0, l5), vN, vN, vN, vN, (2, l10), vN, vN] [] g Θ)
def W2_J9_putVal_292 (ω : AO) (d G : Nat) (l0 l5 : Int) (g : Nat) (Θ : Th) (Q : Int → Th → Prop) : Prop := Hid (SJ2 ω yJ9_putVal cJ9_putVal 13 (some (.object "java/lang/Object")) d G (fun Sz Θz => (eA Sz (q2 ω Θz Q))) 292 [(2, l0), vN, vN, vN, vN, (0, l5), vN, vN, vN, vN, vN, vN, vN] [] g Θ)
def W2_J9_putVal_212 (ω : AO) (d G : Nat) (l0 l1 l2 l3 l4 l5 l6 l10 l12 : Int) (g : Nat) (Θ : Th) (Q : Int → Th → Prop) : Prop := Hid (SJ2 ω yJ9_putVal cJ9_putVal 13 (some (.object "java/lang/Object")) d G (fun Sz Θz => (eA Sz (q2 ω Θz Q))) 212 [(2, l0), (0, l1), (2, l2), (2, l3), (0, l4), (0, l5), (2, l6), vN, vN, vN, (2, l10), vN, (0, l12)] [] g Θ)
def W2_J9_putVal_244 (ω : AO) (d G : Nat) (l0 l3 l10 l12 : Int) (g : Nat) (Θ : Th) (Q : Int → Th → Prop) : Prop := Hid (SJ2 ω yJ9_putVal cJ9_putVal 13 (some (.object "java/lang/Object")) d G (fun Sz Θz => (eA Sz (q2 ω Θz Q))) 244 [(2, l0), vN, vN, (2, l3), vN, vN, vN, vN, vN, vN, (2, l10), vN, (2, l12)] [] g Θ)
def W2_J9_putVal_250 (ω : AO) (d G : Nat) (l0 l10 l12 : Int) (g : Nat) (Θ : Th) (Q : Int → Th → Prop) : Prop := Hid (SJ2 ω yJ9_putVal cJ9_putVal 13 (some (.object "java/lang/Object")) d G (fun Sz Θz => (eA Sz (q2 ω Θz Q))) 250 [(2, l0), vN, vN, vN, vN, vN, vN, vN, vN, vN, (2, l10), vN, (2, l12)] [] g Θ)
set_option maxHeartbeats 4000000 in
theorem s2_J9_putVal {ω : AO} {d G : Nat} {l0 l1 l2 l3 l4 l5 : Int} {Θ : Th} {Q : Int → Th → Prop} (hB : (kd Θ l0 = 4) ∧ ∀ (v1 : Int) (e1 : v1 = gt (vv Θ l0) 2) (r1 : -1 ≤ v1), (∀ (c7 : v1 < 0), W2_J9_putVal_19 ω d G l0 l1 l2 l3 l4 l5 (0) Θ Q) ∧ (∀ (c7 : 0 ≤ v1), (kd Θ v1 = 107) ∧ ∀ (v12 : Int) (e12 : v12 = len (vv Θ v1)) (r12 : 0 ≤ v12 ∧ v12 < 2147483648), (∀ (c16 : ¬ v12 = 0), W2_J9_putVal_29 ω d G l0 l1 l2 l3 l4 l5 v1 v12 (0) Θ Q) ∧ (∀ (c16 : v12 = 0), W2_J9_putVal_19 ω d G l0 l1 l2 l3 l4 l5 (0) Θ Q))) : w2_J9_putVal ω d G l0 l1 l2 l3 l4 l5 Θ Q := sorry
set_option maxHeartbeats 4000000 in
theorem s2_J9_putVal_19 {ω : AO} {d G : Nat} {l0 l1 l2 l3 l4 l5 : Int} {g : Nat} {Θ : Th} {Q : Int → Th → Prop} (hB : (1 ≤ d) ∧ (kd Θ l0 = 4) ∧ ∃ G20 : Nat, (g + G20 ≤ G) ∧ w2_J9_resize ω (d - 1) G20 l0 Θ (fun x20 Θ20 => ∀ (L20 : Le Θ Θ20) (r20 : -1 ≤ x20), (kd Θ20 x20 = 107) ∧ ∀ (v26 : Int) (e26 : v26 = len (vv Θ20 x20)) (r26 : 0 ≤ v26 ∧ v26 < 2147483648), W2_J9_putVal_29 ω d G l0 l1 l2 l3 l4 l5 x20 v26 (g + G20) Θ20 Q)) : W2_J9_putVal_19 ω d G l0 l1 l2 l3 l4 l5 g Θ Q := sorry
set_option maxHeartbeats 4000000 in
theorem s2_J9_putVal_29 {ω : AO} {d G : Nat} {l0 l1 l2 l3 l4 l5 l6 l8 : Int} {g : Nat} {Θ : Th} {Q : Int → Th → Prop} (hB : (kd Θ l6 = 107) ∧ (0 ≤ (andI (l8 - 1) l1) ∧ (andI (l8 - 1) l1) < len (vv Θ l6)) ∧ ∀ (v40 : Int) (e40 : v40 = gt (vv Θ l6) (andI (l8 - 1) l1)) (r40 : -1 ≤ v40), (∀ (c44 : 0 ≤ v40), (kd Θ v40 = 12 ∨ kd Θ v40 = 13) ∧ ∀ (v65 : Int) (e65 : v65 = gt (vv Θ v40) (nfi (kd Θ v40) 0)) (r65 : -2147483648 ≤ v65 ∧ v65 < 2147483648), (-2147483648 ≤ l1 ∧ l1 < 2147483648) ∧ (∀ (c69 : ¬ v65 = l1), W2_J9_putVal_104 ω d G l0 l1 l2 l3 l4 l5 l6 v40 (g) Θ Q) ∧ (∀ (c69 : v65 = l1), ∀ (v74 : Int) (e74 : v74 = gt (vv Θ v40) (nfi (kd Θ v40) 1)) (r74 : -1 ≤ v74), (-1 ≤ l2) ∧ (∀ (c81 : v74 = l2), W2_J9_putVal_97 ω d G l0 l3 l4 l5 v40 (g) Θ Q) ∧ (∀ (c81 : ¬ v74 = l2), (∀ (c85 : l2 < 0), W2_J9_putVal_104 ω d G l0 l1 l2 l3 l4 l5 l6 v40 (g) Θ Q) ∧ (∀ (c85 : 0 ≤ l2), (1 ≤ d) ∧ (((kd Θ l2 = 2) ∧ ∃ G91 : Nat, (g + G91 ≤ G) ∧ w2_J2_equals ω (d - 1) G91 l2 v74 Θ (fun x91 Θ91 => ∀ (L91 : Le Θ Θ91) (r91 : x91 = 0 ∨ x91 = 1), (∀ (c94 : x91 = 0), W2_J9_putVal_104 ω d G l0 l1 l2 l3 l4 l5 l6 v40 (g + G91) Θ91 Q) ∧ (∀ (c94 : ¬ x91 = 0), W2_J9_putVal_97 ω d G l0 l3 l4 l5 v40 (g + G91) Θ91 Q))) ∨ ((kd Θ l2 = 26) ∧ ∃ G91 : Nat, (g + G91 ≤ G) ∧ w2_J33_equals ω (d - 1) G91 l2 v74 Θ (fun x91 Θ91 => ∀ (L91 : Le Θ Θ91) (r91 : x91 = 0 ∨ x91 = 1), (∀ (c94 : x91 = 0), W2_J9_putVal_104 ω d G l0 l1 l2 l3 l4 l5 l6 v40 (g + G91) Θ91 Q) ∧ (∀ (c94 : ¬ x91 = 0), W2_J9_putVal_97 ω d G l0 l3 l4 l5 v40 (g + G91) Θ91 Q))) ∨ ((kd Θ l2 = 35) ∧ ∃ G91 : Nat, (g + G91 ≤ G) ∧ w2_J33_equals ω (d - 1) G91 l2 v74 Θ (fun x91 Θ91 => ∀ (L91 : Le Θ Θ91) (r91 : x91 = 0 ∨ x91 = 1), (∀ (c94 : x91 = 0), W2_J9_putVal_104 ω d G l0 l1 l2 l3 l4 l5 l6 v40 (g + G91) Θ91 Q) ∧ (∀ (c94 : ¬ x91 = 0), W2_J9_putVal_97 ω d G l0 l3 l4 l5 v40 (g + G91) Θ91 Q))) ∨ ((kd Θ l2 = 65) ∧ ∃ G91 : Nat, (g + G91 ≤ G) ∧ w2_J33_equals ω (d - 1) G91 l2 v74 Θ (fun x91 Θ91 => ∀ (L91 : Le Θ Θ91) (r91 : x91 = 0 ∨ x91 = 1), (∀ (c94 : x91 = 0), W2_J9_putVal_104 ω d G l0 l1 l2 l3 l4 l5 l6 v40 (g + G91) Θ91 Q) ∧ (∀ (c94 : ¬ x91 = 0), W2_J9_putVal_97 ω d G l0 l3 l4 l5 v40 (g + G91) Θ91 Q)))))))) ∧ (∀ (c44 : v40 < 0), (1 ≤ d) ∧ (kd Θ l0 = 4) ∧ ∃ G56 : Nat, (g + G56 ≤ G) ∧ w2_J9_newNode ω (d - 1) G56 l0 l1 l2 l3 (-1) Θ (fun x56 Θ56 => ∀ (L56 : Le Θ Θ56) (r56 : -1 ≤ x56), (¬ fz Θ56 l6) ∧ (0 ≤ (andI (l8 - 1) l1) ∧ (andI (l8 - 1) l1) < len (vv Θ56 l6)) ∧ (x56 = -1 ∨ kd Θ56 x56 ∈ [12, 13]) ∧ ∀ (Θ59 : Th) (t59 : Θ59 = pf Θ56 l6 (andI (l8 - 1) l1) x56), W2_J9_putVal_259 ω d G l0 l5 (g + G56) Θ59 Q))) : W2_J9_putVal_29 ω d G l0 l1 l2 l3 l4 l5 l6 l8 g Θ Q := sorry
set_option maxHeartbeats 4000000 in
theorem s2_J9_putVal_104 {ω : AO} {d G : Nat} {l0 l1 l2 l3 l4 l5 l6 l7 : Int} {g : Nat} {Θ : Th} {Q : Int → Th → Prop} (hB : (((l7 < 0) ∧ W2_J9_putVal_134 ω d G l0 l1 l2 l3 l4 l5 l6 l7 0 (g) Θ Q) ∨ ((kd Θ l7 = 13) ∧ (l7 < 0 ∨ kd Θ l7 ∈ [13]) ∧ (1 ≤ d) ∧ ∃ G123 : Nat, (g + G123 ≤ G) ∧ w2_J30_putTreeVal ω (d - 1) G123 l7 l0 l6 l1 l2 l3 Θ (fun x123 Θ123 => ∀ (L123 : Le Θ Θ123) (r123 : -1 ≤ x123), W2_J9_putVal_222 ω d G l0 l3 l4 l5 x123 (g + G123) Θ123 Q)) ∨ ((kd Θ l7 = 12) ∧ W2_J9_putVal_134 ω d G l0 l1 l2 l3 l4 l5 l6 l7 0 (g) Θ Q))) : W2_J9_putVal_104 ω d G l0 l1 l2 l3 l4 l5 l6 l7 g Θ Q := sorry
set_option maxHeartbeats 4000000 in
theorem s2_J9_putVal_97 {ω : AO} {d G : Nat} {l0 l3 l4 l5 l7 : Int} {g : Nat} {Θ : Th} {Q : Int → Th → Prop} (hB : W2_J9_putVal_222 ω d G l0 l3 l4 l5 l7 (g) Θ Q) : W2_J9_putVal_97 ω d G l0 l3 l4 l5 l7 g Θ Q := sorry
set_option maxHeartbeats 4000000 in
theorem s2_J9_putVal_259 {ω : AO} {d G : Nat} {l0 l5 : Int} {g : Nat} {Θ : Th} {Q : Int → Th → Prop} (hB : (kd Θ l0 = 4) ∧ ∀ (v261 : Int) (e261 : v261 = gt (vv Θ l0) 5) (r261 : -2147483648 ≤ v261 ∧ v261 < 2147483648), (¬ fz Θ l0) ∧ (-2147483648 ≤ (v261 + 1) ∧ (v261 + 1) < 2147483648) ∧ ∀ (Θ266 : Th) (t266 : Θ266 = pf Θ l0 5 (v261 + 1)), ∀ (v271 : Int) (e271 : v271 = gt (vv Θ266 l0) 4) (r271 : -2147483648 ≤ v271 ∧ v271 < 2147483648), (¬ fz Θ266 l0) ∧ (-2147483648 ≤ (v271 + 1) ∧ (v271 + 1) < 2147483648) ∧ ∀ (Θ277 : Th) (t277 : Θ277 = pf Θ266 l0 4 (v271 + 1)), ∀ (v281 : Int) (e281 : v281 = gt (vv Θ277 l0) 6) (r281 : -2147483648 ≤ v281 ∧ v281 < 2147483648), (∀ (c284 : (v271 + 1) ≤ v281), W2_J9_putVal_292 ω d G l0 l5 (g) Θ277 Q) ∧ (∀ (c284 : v281 < (v271 + 1)), (1 ≤ d) ∧ ∃ G288 : Nat, (g + G288 ≤ G) ∧ w2_J9_resize ω (d - 1) G288 l0 Θ277 (fun x288 Θ288 => ∀ (L288 : Le Θ277 Θ288) (r288 : -1 ≤ x288), W2_J9_putVal_292 ω d G l0 l5 (g + G288) Θ288 Q))) : W2_J9_putVal_259 ω d G l0 l5 g Θ Q := sorry
set_option maxHeartbeats 4000000 in
theorem s2_J9_putVal_134 {ω : AO} {d G : Nat} {l0 l1 l2 l3 l4 l5 l6 l7 l12 : Int} {g : Nat} {Θ : Th} {Q : Int → Th → Prop} (hB : (kd Θ l7 = 12 ∨ kd Θ l7 = 13) ∧ ∀ (v136 : Int) (e136 : v136 = gt (vv Θ l7) (nfi (kd Θ l7) 3)) (r136 : -1 ≤ v136), (∀ (c142 : 0 ≤ v136), (kd Θ v136 = 12 ∨ kd Θ v136 = 13) ∧ ∀ (v177 : Int) (e177 : v177 = gt (vv Θ v136) (nfi (kd Θ v136) 0)) (r177 : -2147483648 ≤ v177 ∧ v177 < 2147483648), (-2147483648 ≤ l1 ∧ l1 < 2147483648) ∧ (∀ (c181 : ¬ v177 = l1), W2_J9_putVal_212 ω d G l0 l1 l2 l3 l4 l5 l6 v136 l12 (g) Θ Q) ∧ (∀ (c181 : v177 = l1), ∀ (v186 : Int) (e186 : v186 = gt (vv Θ v136) (nfi (kd Θ v136) 1)) (r186 : -1 ≤ v186), (-1 ≤ l2) ∧ (∀ (c193 : v186 = l2), W2_J9_putVal_222 ω d G l0 l3 l4 l5 v136 (g) Θ Q) ∧ (∀ (c193 : ¬ v186 = l2), (∀ (c197 : l2 < 0), W2_J9_putVal_212 ω d G l0 l1 l2 l3 l4 l5 l6 v136 l12 (g) Θ Q) ∧ (∀ (c197 : 0 ≤ l2), (1 ≤ d) ∧ (((kd Θ l2 = 2) ∧ ∃ G203 : Nat, (g + G203 ≤ G) ∧ w2_J2_equals ω (d - 1) G203 l2 v186 Θ (fun x203 Θ203 => ∀ (L203 : Le Θ Θ203) (r203 : x203 = 0 ∨ x203 = 1), (∀ (c206 : x203 = 0), W2_J9_putVal_212 ω d G l0 l1 l2 l3 l4 l5 l6 v136 l12 (g + G203) Θ203 Q) ∧ (∀ (c206 : ¬ x203 = 0), W2_J9_putVal_222 ω d G l0 l3 l4 l5 v136 (g + G203) Θ203 Q))) ∨ ((kd Θ l2 = 26) ∧ ∃ G203 : Nat, (g + G203 ≤ G) ∧ w2_J33_equals ω (d - 1) G203 l2 v186 Θ (fun x203 Θ203 => ∀ (L203 : Le Θ Θ203) (r203 : x203 = 0 ∨ x203 = 1), (∀ (c206 : x203 = 0), W2_J9_putVal_212 ω d G l0 l1 l2 l3 l4 l5 l6 v136 l12 (g + G203) Θ203 Q) ∧ (∀ (c206 : ¬ x203 = 0), W2_J9_putVal_222 ω d G l0 l3 l4 l5 v136 (g + G203) Θ203 Q))) ∨ ((kd Θ l2 = 35) ∧ ∃ G203 : Nat, (g + G203 ≤ G) ∧ w2_J33_equals ω (d - 1) G203 l2 v186 Θ (fun x203 Θ203 => ∀ (L203 : Le Θ Θ203) (r203 : x203 = 0 ∨ x203 = 1), (∀ (c206 : x203 = 0), W2_J9_putVal_212 ω d G l0 l1 l2 l3 l4 l5 l6 v136 l12 (g + G203) Θ203 Q) ∧ (∀ (c206 : ¬ x203 = 0), W2_J9_putVal_222 ω d G l0 l3 l4 l5 v136 (g + G203) Θ203 Q))) ∨ ((kd Θ l2 = 65) ∧ ∃ G203 : Nat, (g + G203 ≤ G) ∧ w2_J33_equals ω (d - 1) G203 l2 v186 Θ (fun x203 Θ203 => ∀ (L203 : Le Θ Θ203) (r203 : x203 = 0 ∨ x203 = 1), (∀ (c206 : x203 = 0), W2_J9_putVal_212 ω d G l0 l1 l2 l3 l4 l5 l6 v136 l12 (g + G203) Θ203 Q) ∧ (∀ (c206 : ¬ x203 = 0), W2_J9_putVal_222 ω d G l0 l3 l4 l5 v136 (g + G203) Θ203 Q)))))))) ∧ (∀ (c142 : v136 < 0), (1 ≤ d) ∧ (kd Θ l0 = 4) ∧ ∃ G152 : Nat, (g + G152 ≤ G) ∧ w2_J9_newNode ω (d - 1) G152 l0 l1 l2 l3 (-1) Θ (fun x152 Θ152 => ∀ (L152 : Le Θ Θ152) (r152 : -1 ≤ x152), (kd Θ152 l7 = 12 ∨ kd Θ152 l7 = 13) ∧ (¬ fz Θ152 l7) ∧ (-1 ≤ x152) ∧ ∀ (Θ155 : Th) (t155 : Θ155 = pf Θ152 l7 (nfi (kd Θ152 l7) 3) x152), (-2147483648 ≤ l12 ∧ l12 < 2147483648) ∧ (∀ (c162 : l12 < 7), W2_J9_putVal_222 ω d G l0 l3 l4 l5 v136 (g + G152) Θ155 Q) ∧ (∀ (c162 : 7 ≤ l12), ∃ G169 : Nat, (g + G152 + G169 ≤ G) ∧ w2_J9_treeifyBin ω (d - 1) G169 l0 l6 l1 Θ155 (fun Θ169 => ∀ (L169 : Le Θ155 Θ169), W2_J9_putVal_222 ω d G l0 l3 l4 l5 v136 (g + G152 + G169) Θ169 Q))))) : W2_J9_putVal_134 ω d G l0 l1 l2 l3 l4 l5 l6 l7 l12 g Θ Q := sorry
set_option maxHeartbeats 4000000 in
theorem s2_J9_putVal_222 {ω : AO} {d G : Nat} {l0 l3 l4 l5 l10 : Int} {g : Nat} {Θ : Th} {Q : Int → Th → Prop} (hB : (∀ (c224 : l10 < 0), W2_J9_putVal_259 ω d G l0 l5 (g) Θ Q) ∧ (∀ (c224 : 0 ≤ l10), (kd Θ l10 = 12 ∨ kd Θ l10 = 13) ∧ ∀ (v229 : Int) (e229 : v229 = gt (vv Θ l10) (nfi (kd Θ l10) 2)) (r229 : -1 ≤ v229), (-2147483648 ≤ l4 ∧ l4 < 2147483648) ∧ (∀ (c236 : l4 = 0), W2_J9_putVal_244 ω d G l0 l3 l10 v229 (g) Θ Q) ∧ (∀ (c236 : ¬ l4 = 0), (∀ (c241 : 0 ≤ v229), W2_J9_putVal_250 ω d G l0 l10 v229 (g) Θ Q) ∧ (∀ (c241 : v229 < 0), W2_J9_putVal_244 ω d G l0 l3 l10 v229 (g) Θ Q)))) : W2_J9_putVal_222 ω d G l0 l3 l4 l5 l10 g Θ Q := sorry
set_option maxHeartbeats 4000000 in
theorem s2_J9_putVal_292 {ω : AO} {d G : Nat} {l0 l5 : Int} {g : Nat} {Θ : Th} {Q : Int → Th → Prop} (hB : (1 ≤ d) ∧ (kd Θ l0 = 4) ∧ ∃ G295 : Nat, (g + G295 ≤ G) ∧ w2_J9_afterNodeInsertion ω (d - 1) G295 l0 l5 Θ (fun Θ295 => ∀ (L295 : Le Θ Θ295), (g + G295 ≤ G) ∧ (-1 ≤ (-1)) ∧ Q (-1) Θ295)) : W2_J9_putVal_292 ω d G l0 l5 g Θ Q := sorry
set_option maxHeartbeats 4000000 in
theorem s2_J9_putVal_212 {ω : AO} {d G : Nat} {l0 l1 l2 l3 l4 l5 l6 l10 l12 : Int} {g : Nat} {Θ : Th} {Q : Int → Th → Prop} (hB : W2_J9_putVal_134 ω d G l0 l1 l2 l3 l4 l5 l6 l10 ((l12 + 1)) (g) Θ Q) : W2_J9_putVal_212 ω d G l0 l1 l2 l3 l4 l5 l6 l10 l12 g Θ Q := sorry
set_option maxHeartbeats 4000000 in
theorem s2_J9_putVal_244 {ω : AO} {d G : Nat} {l0 l3 l10 l12 : Int} {g : Nat} {Θ : Th} {Q : Int → Th → Prop} (hB : (kd Θ l10 = 12 ∨ kd Θ l10 = 13) ∧ (¬ fz Θ l10) ∧ (-1 ≤ l3) ∧ ∀ (Θ247 : Th) (t247 : Θ247 = pf Θ l10 (nfi (kd Θ l10) 2) l3), W2_J9_putVal_250 ω d G l0 l10 l12 (g) Θ247 Q) : W2_J9_putVal_244 ω d G l0 l3 l10 l12 g Θ Q := sorry
set_option maxHeartbeats 4000000 in
theorem s2_J9_putVal_250 {ω : AO} {d G : Nat} {l0 l10 l12 : Int} {g : Nat} {Θ : Th} {Q : Int → Th → Prop} (hB : (1 ≤ d) ∧ (kd Θ l0 = 4) ∧ ∃ G253 : Nat, (g + G253 ≤ G) ∧ w2_J9_afterNodeAccess ω (d - 1) G253 l0 l10 Θ (fun Θ253 => ∀ (L253 : Le Θ Θ253), (g + G253 ≤ G) ∧ (-1 ≤ l12) ∧ Q l12 Θ253)) : W2_J9_putVal_250 ω d G l0 l10 l12 g Θ Q := sorry
set_option maxHeartbeats 4000000 in
theorem s2_J9_put {ω : AO} {d G : Nat} {l0 l1 l2 : Int} {Θ : Th} {Q : Int → Th → Prop} (hB : (1 ≤ d) ∧ ∃ G2 : Nat, (0 + G2 ≤ G) ∧ w2_J9_hash ω (d - 1) G2 l1 Θ (fun x2 Θ2 => ∀ (L2 : Le Θ Θ2) (r2 : -2147483648 ≤ x2 ∧ x2 < 2147483648), (kd Θ2 l0 = 4) ∧ ∃ G9 : Nat, (0 + G2 + G9 ≤ G) ∧ w2_J9_putVal ω (d - 1) G9 l0 x2 l1 l2 0 1 Θ2 (fun x9 Θ9 => ∀ (L9 : Le Θ2 Θ9) (r9 : -1 ≤ x9), (0 + G2 + G9 ≤ G) ∧ (-1 ≤ x9) ∧ Q x9 Θ9))) : w2_J9_put ω d G l0 l1 l2 Θ Q := sorry
/-! 80.ab.lean.txt -/
/-! trees of a map: a plain law of rotations and insertions. W a j is field j of node a; lo, hi: between which nodes a node's subtree lies -/
set_option maxRecDepth 100000
/-- field k of node a becomes x -/
def wu (W : Int → Int → Int) (a k x : Int) : Int → Int → Int := fun b j => if b = a ∧ j = k then x else W b j
theorem wu_at {W : Int → Int → Int} {a k x : Int} : wu W a k x a k = x := if_pos ⟨rfl, rfl⟩
theorem wu_n1 {W : Int → Int → Int} {a k x b j : Int} (h : b ≠ a) : wu W a k x b j = W b j := if_neg (fun z => h z.1)
theorem wu_n2 {W : Int → Int → Int} {a k x b j : Int} (h : j ≠ k) : wu W a k x b j = W b j := if_neg (fun z => h z.2)
/-- a function takes a value -/
def fu (f : Int → Int) (a x : Int) : Int → Int := fun b => if b = a then x else f b
theorem fu_at {f : Int → Int} {a x : Int} : fu f a x a = x := if_pos rfl
theorem fu_ne {f : Int → Int} {a x b : Int} (h : b ≠ a) : fu f a x b = f b := if_neg h
/-- an order of what is in A -/
def OrdA (A : Int → Prop) (lt : Int → Int → Prop) : Prop := (∀ a, A a → ¬ lt a a) ∧ (∀ a b c, A a → A b → A c → lt a b → lt b c → lt a c) ∧ ∀ a b, A a → A b → a ≠ b → lt a b ∨ lt b a
theorem OrdA.flip {A : Int → Prop} {lt : Int → Int → Prop} (o : OrdA A lt) : OrdA A (fun a b => lt b a) := sorry
theorem OrdA.asy {A : Int → Prop} {lt : Int → Int → Prop} (o : OrdA A lt) {a b : Int} (ha : A a) (hb : A b) (h : lt a b) : ¬ lt b a := fun y => o.1 a ha (o.2.1 a b a ha hb ha h y)
theorem OrdA.nee {A : Int → Prop} {lt : Int → Int → Prop} (o : OrdA A lt) {a b : Int} (ha : A a) (h : lt a b) : a ≠ b := fun y => by rw [← y] at h; exact o.1 a ha h
theorem OrdA.sub {A A' : Int → Prop} {lt : Int → Int → Prop} (o : OrdA A lt) (h : ∀ a, A' a → A a) : OrdA A' lt := sorry
/-- above what bounds from below, below what bounds from above -/
def abv (lt : Int → Int → Prop) (l t : Int) : Prop := l = -1 ∨ lt l t
def blw (lt : Int → Int → Prop) (h t : Int) : Prop := h = -1 ∨ lt t h
/-- a tree: L, R the fields of what is left, right (or the other way round) -/
def TI (W : Int → Int → Int) (A : Int → Prop) (lt : Int → Int → Prop) (L R rt : Int) (lo hi : Int → Int) : Prop :=
  (A rt ∧ W rt 6 = -1 ∧ lo rt = -1 ∧ hi rt = -1) ∧
  (∀ a, A a → 0 ≤ a ∧ (lo a = -1 ∨ A (lo a) ∧ lt (lo a) a) ∧ (hi a = -1 ∨ A (hi a) ∧ lt a (hi a))) ∧
  (∀ a, A a → (W a L = -1 ∧ ∀ t, A t → lt t a → abv lt (lo a) t → False) ∨ (A (W a L) ∧ W (W a L) 6 = a ∧ lo (W a L) = lo a ∧ hi (W a L) = a)) ∧
  (∀ a, A a → (W a R = -1 ∧ ∀ t, A t → lt a t → blw lt (hi a) t → False) ∨ (A (W a R) ∧ W (W a R) 6 = a ∧ lo (W a R) = a ∧ hi (W a R) = hi a)) ∧
  (∀ a, A a → a ≠ rt → A (W a 6) ∧ (W (W a 6) L = a ∨ W (W a 6) R = a)) ∧
  ∀ a b, A a → A b → lt a b → (∀ c, A c → lt a c → lt c b → False) → blw lt (hi a) b ∨ abv lt (lo b) a
section TIS
variable {W W' : Int → Int → Int} {A : Int → Prop} {lt : Int → Int → Prop} {L R rt p r l pp x xp : Int} {lo hi : Int → Int}
theorem TI.flip (h : TI W A lt L R rt lo hi) : TI W A (fun a b => lt b a) R L rt hi lo := sorry
theorem TI.nn (h : TI W A lt L R rt lo hi) {a : Int} (ha : A a) : 0 ≤ a := (h.2.1 a ha).1
theorem TI.kL (h : TI W A lt L R rt lo hi) {a : Int} (ha : A a) (hl : 0 ≤ W a L) : A (W a L) ∧ W (W a L) 6 = a ∧ lo (W a L) = lo a ∧ hi (W a L) = a ∧ lt (W a L) a := sorry
theorem TI.kR (h : TI W A lt L R rt lo hi) {a : Int} (ha : A a) (hl : 0 ≤ W a R) : A (W a R) ∧ W (W a R) 6 = a ∧ lo (W a R) = a ∧ hi (W a R) = hi a ∧ lt a (W a R) := sorry
theorem TI.Lm (h : TI W A lt L R rt lo hi) {a : Int} (ha : A a) : -1 ≤ W a L := sorry
theorem TI.Rm (h : TI W A lt L R rt lo hi) {a : Int} (ha : A a) : -1 ≤ W a R := h.flip.Lm ha
theorem TI.P (h : TI W A lt L R rt lo hi) {a : Int} (ha : A a) : (W a 6 = -1 ∧ a = rt) ∨ (A (W a 6) ∧ (W (W a 6) L = a ∨ W (W a 6) R = a) ∧ a ≠ rt) := sorry
theorem TI.abv0 (h : TI W A lt L R rt lo hi) {a : Int} (ha : A a) : abv lt (lo a) a := (h.2.1 a ha).2.1.imp (fun y => y) (fun y => y.2)
theorem TI.blw0 (h : TI W A lt L R rt lo hi) {a : Int} (ha : A a) : blw lt (hi a) a := (h.2.1 a ha).2.2.imp (fun y => y) (fun y => y.2)
/-- further up -/
theorem TI.abvT (h : TI W A lt L R rt lo hi) (o : OrdA A lt) {a b c : Int} (ha : A a) (hb : A b) (hc : A c) (h1 : abv lt (lo a) b) (h2 : lt b c) : abv lt (lo a) c := sorry
/-- a rotation: r, right of p, comes up; what was left of r comes right of p -/
theorem TI.rot {rt' : Int} (h : TI W A lt L R rt lo hi) (o : OrdA A lt) (hp : A p) (er : W p R = r) (el : W r L = l) (ep : W p 6 = pp) (hr : 0 ≤ r)
    (e1 : W' p R = l ∧ W' p 6 = r ∧ W' p L = W p L) (e2 : W' r 6 = pp ∧ W' r L = p ∧ W' r R = W r R) (e3 : 0 ≤ l → W' l 6 = p ∧ W' l L = W l L ∧ W' l R = W l R)
    (e4 : 0 ≤ pp → (W pp L = p → W' pp L = r ∧ W' pp R = W pp R) ∧ (W pp L ≠ p → W' pp R = r ∧ W' pp L = W pp L) ∧ W' pp 6 = W pp 6)
    (e5 : ∀ a, A a → a ≠ p → a ≠ r → a ≠ l → a ≠ pp → W' a L = W a L ∧ W' a R = W a R ∧ W' a 6 = W a 6)
    (hrt : (pp = -1 → rt' = r) ∧ (pp ≠ -1 → rt' = rt)) : TI W' A lt L R rt' (fu lo r (lo p)) (fu hi p r) := sorry
/-- a node comes left of one that has nothing there -/
theorem TI.ins (h : TI W A lt L R rt lo hi) (o : OrdA (fun a => A a ∨ a = x) lt) (hxp : A xp) (hn : W xp L = -1) (hx : ¬ A x) (x0 : 0 ≤ x) (h1 : lt x xp) (h2 : abv lt (lo xp) x)
    (e1 : W' xp L = x ∧ W' xp R = W xp R ∧ W' xp 6 = W xp 6) (e2 : W' x 6 = xp ∧ W' x L = -1 ∧ W' x R = -1) (e3 : ∀ a, A a → a ≠ xp → W' a L = W a L ∧ W' a R = W a R ∧ W' a 6 = W a 6) :
    TI W' (fun a => A a ∨ a = x) lt L R rt (fu lo x (lo xp)) (fu hi x xp) := sorry
/-- a single node -/
theorem TI.one (x0 : 0 ≤ x) (h6 : W x 6 = -1) (hL : W x L = -1) (hR : W x R = -1) (hi0 : ¬ lt x x) : TI W (fun a => a = x) lt L R x (fun _ => -1) (fun _ => -1) := sorry
/-- what is not touched does not matter -/
theorem TI.cong (h : TI W A lt L R rt lo hi) (e : ∀ a, A a → W' a L = W a L ∧ W' a R = W a R ∧ W' a 6 = W a 6) : TI W' A lt L R rt lo hi := sorry
theorem TI.congA {A' : Int → Prop} (h : TI W A lt L R rt lo hi) (e : ∀ a, A a ↔ A' a) : TI W A' lt L R rt lo hi := sorry
/-- going left after one that is further left -/
theorem TI.goL (h : TI W A lt L R rt lo hi) {t : Int} (hp : A p) (hl : lt t p) (h1 : abv lt (lo p) t) (hL : 0 ≤ W p L) : A (W p L) ∧ abv lt (lo (W p L)) t ∧ blw lt (hi (W p L)) t := sorry
theorem TI.goR (h : TI W A lt L R rt lo hi) {t : Int} (hp : A p) (hl : lt p t) (h1 : blw lt (hi p) t) (hR : 0 ≤ W p R) : A (W p R) ∧ abv lt (lo (W p R)) t ∧ blw lt (hi (W p R)) t := sorry
theorem TI.hasL (h : TI W A lt L R rt lo hi) {t : Int} (hp : A p) (ht : A t) (hl : lt t p) (h1 : abv lt (lo p) t) : 0 ≤ W p L := sorry
theorem TI.hasR (h : TI W A lt L R rt lo hi) {t : Int} (hp : A p) (ht : A t) (hl : lt p t) (h1 : blw lt (hi p) t) : 0 ≤ W p R := h.flip.hasL hp ht hl h1
/-- how many lie in a node's subtree -/
noncomputable def mea (lt : Int → Int → Prop) (lo hi : Int → Int) (ns : List Int) (p : Int) : Nat := ns.countP (fun c => @decide (abv lt (lo p) c ∧ blw lt (hi p) c) (Classical.propDecidable _))
theorem cntP_le {P Q : Int → Bool} : ∀ {ns : List Int}, (∀ c, c ∈ ns → P c = true → Q c = true) → ns.countP P ≤ ns.countP Q := sorry
theorem cntP_lt {P Q : Int → Bool} {a : Int} : ∀ {ns : List Int}, (∀ c, c ∈ ns → P c = true → Q c = true) → a ∈ ns → Q a = true → P a = false → ns.countP P < ns.countP Q := sorry
theorem mea_le {ns : List Int} : mea lt lo hi ns p ≤ ns.length := List.countP_le_length
/-- a child's subtree is smaller -/
theorem TI.meaL {ns : List Int} (h : TI W A lt L R rt lo hi) (o : OrdA A lt) (hns : ∀ a, A a ↔ a ∈ ns) (hp : A p) (hL : 0 ≤ W p L) : mea lt lo hi ns (W p L) < mea lt lo hi ns p := sorry
theorem mea_flip {ns : List Int} : mea (fun a b => lt b a) hi lo ns p = mea lt lo hi ns p := sorry
theorem TI.meaR {ns : List Int} (h : TI W A lt L R rt lo hi) (o : OrdA A lt) (hns : ∀ a, A a ↔ a ∈ ns) (hp : A p) (hR : 0 ≤ W p R) : mea lt lo hi ns (W p R) < mea lt lo hi ns p := sorry
/-- a parent's is greater -/
theorem TI.meaP {ns : List Int} (h : TI W A lt L R rt lo hi) (o : OrdA A lt) (hns : ∀ a, A a ↔ a ∈ ns) (hp : A p) (hP : 0 ≤ W p 6) : mea lt lo hi ns p < mea lt lo hi ns (W p 6) := sorry
end TIS

/-! 80.ac.lean.txt -/
/-! trees of a map: rotations, balanceInsertion (printed by mk_80ac.py) -/
set_option maxRecDepth 100000
/-- the nodes of a tree in the heap -/
def TSt (Θ : Th) (A : Int → Prop) (W : Int → Int → Int) : Prop := ∀ a, A a → (kd Θ a = 13 ∧ len (vv Θ a) = 11 ∧ ¬ fz Θ a) ∧ ∀ j, 0 ≤ j → j < 11 → gt (vv Θ a) j = W a j
section TST
variable {Θ Θ1 : Th} {A A' : Int → Prop} {W W1 : Int → Int → Int} {a j kx x : Int} {ex : Int → Prop}
theorem TSt.rd (h : TSt Θ A W) (ha : A a) (hj : 0 ≤ j ∧ j < 11) : gt (vv Θ a) j = W a j := (h a ha).2 j hj.1 hj.2
theorem TSt.k (h : TSt Θ A W) (ha : A a) : kd Θ a = 13 := (h a ha).1.1
theorem TSt.f (h : TSt Θ A W) (ha : A a) : ¬ fz Θ a := (h a ha).1.2.2
theorem TSt.hk (h : TSt Θ A W) : ∀ b, A b → 0 < kd Θ b ∧ kd Θ b < 200 := sorry
theorem TSt.pf (h : TSt Θ A W) (ha : A a) (hk : 0 ≤ kx ∧ kx < 11) (t : Θ1 = pf Θ a kx x) : TSt Θ1 A (wu W a kx x) ∧ GrX A Θ Θ1 := sorry
theorem TSt.keep (h : TSt Θ A W) (g : GrX ex Θ Θ1) (hx : ∀ a, A a → ¬ ex a) : TSt Θ1 A W := sorry
theorem TSt.sub (h : TSt Θ A W) (hs : ∀ a, A' a → A a) : TSt Θ A' W := fun b hb => h b (hs b hb)
theorem TSt.eqW (h : TSt Θ A W) (e : ∀ a j, A a → 0 ≤ j → j < 11 → W1 a j = W a j) : TSt Θ A W1 := sorry
end TST
/-- what a rotation does to the fields -/
def rotW (W : Int → Int → Int) (L R p r l pp : Int) : Int → Int → Int := fun a j =>
  if a = p ∧ j = 6 then r else if a = r ∧ j = L then p else
  if pp < 0 ∧ a = r ∧ j = 10 then 0 else if 0 ≤ pp ∧ W pp L = p ∧ a = pp ∧ j = L then r else if 0 ≤ pp ∧ W pp L ≠ p ∧ a = pp ∧ j = R then r else
  if a = r ∧ j = 6 then pp else if 0 ≤ l ∧ a = l ∧ j = 6 then p else if a = p ∧ j = R then l else W a j
section RTW
variable {W : Int → Int → Int} {L R p r l pp : Int}
theorem rotW_1 (h : L ≠ R ∧ L ≠ 6 ∧ R ≠ 6 ∧ L ≠ 10 ∧ R ≠ 10) (npr : p ≠ r) (nl : 0 ≤ l → l ≠ p ∧ l ≠ r) (npp : 0 ≤ pp → pp ≠ p ∧ pp ≠ r ∧ (0 ≤ l → pp ≠ l)) :
    (rotW W L R p r l pp p R = l ∧ rotW W L R p r l pp p 6 = r ∧ rotW W L R p r l pp p L = W p L) ∧ (rotW W L R p r l pp r 6 = pp ∧ rotW W L R p r l pp r L = p ∧ rotW W L R p r l pp r R = W r R) := sorry
theorem rotW_3 (h : L ≠ R ∧ L ≠ 6 ∧ R ≠ 6 ∧ L ≠ 10 ∧ R ≠ 10) (npr : p ≠ r) (nl : 0 ≤ l → l ≠ p ∧ l ≠ r) (npp : 0 ≤ pp → pp ≠ p ∧ pp ≠ r ∧ (0 ≤ l → pp ≠ l)) (hl : 0 ≤ l) :
    rotW W L R p r l pp l 6 = p ∧ rotW W L R p r l pp l L = W l L ∧ rotW W L R p r l pp l R = W l R := sorry
theorem rotW_4 (h : L ≠ R ∧ L ≠ 6 ∧ R ≠ 6 ∧ L ≠ 10 ∧ R ≠ 10) (npr : p ≠ r) (nl : 0 ≤ l → l ≠ p ∧ l ≠ r) (npp : 0 ≤ pp → pp ≠ p ∧ pp ≠ r ∧ (0 ≤ l → pp ≠ l)) (hp : 0 ≤ pp) :
    (W pp L = p → rotW W L R p r l pp pp L = r ∧ rotW W L R p r l pp pp R = W pp R) ∧ (W pp L ≠ p → rotW W L R p r l pp pp R = r ∧ rotW W L R p r l pp pp L = W pp L) ∧ rotW W L R p r l pp pp 6 = W pp 6 := sorry
theorem rotW_5 (h : L ≠ R ∧ L ≠ 6 ∧ R ≠ 6 ∧ L ≠ 10 ∧ R ≠ 10) {a : Int} (h1 : a ≠ p) (h2 : a ≠ r) (h3 : a ≠ l) (h4 : a ≠ pp) : rotW W L R p r l pp a L = W a L ∧ rotW W L R p r l pp a R = W a R ∧ rotW W L R p r l pp a 6 = W a 6 := sorry
theorem rotW_6 (h : L ≠ R ∧ L ≠ 6 ∧ R ≠ 6 ∧ L ≠ 10 ∧ R ≠ 10) {a : Int} (h1 : a ≠ p) (h2 : a ≠ r) (h3 : a ≠ l) : rotW W L R p r l pp a 6 = W a 6 := sorry
theorem rotW_c (h : L ≠ R ∧ L ≠ 6 ∧ R ≠ 6 ∧ L ≠ 10 ∧ R ≠ 10) {a : Int} : rotW W L R p r l pp a 10 = W a 10 ∨ rotW W L R p r l pp a 10 = 0 := sorry
theorem rotW_k (h : L ≠ R ∧ L ≠ 6 ∧ R ≠ 6 ∧ L ≠ 10 ∧ R ≠ 10) {a j : Int} (h1 : j ≠ 6) (h2 : j ≠ L) (h3 : j ≠ R) (h4 : j ≠ 10) : rotW W L R p r l pp a j = W a j := sorry
end RTW
theorem h78 : (7 : Int) ≠ 8 ∧ (7 : Int) ≠ 6 ∧ (8 : Int) ≠ 6 ∧ (7 : Int) ≠ 10 ∧ (8 : Int) ≠ 10 := sorry
theorem h87 : (8 : Int) ≠ 7 ∧ (8 : Int) ≠ 6 ∧ (7 : Int) ≠ 6 ∧ (8 : Int) ≠ 10 ∧ (7 : Int) ≠ 10 := sorry
/-- who is who at a rotation -/
theorem TI.who {W : Int → Int → Int} {A : Int → Prop} {lt : Int → Int → Prop} {L R rt p r l pp : Int} {lo hi : Int → Int} (h : TI W A lt L R rt lo hi) (o : OrdA A lt) (hp : A p) (er : W p R = r) (el : W r L = l) (ep : W p 6 = pp) (hr : 0 ≤ r) :
    A r ∧ W r 6 = p ∧ p ≠ r ∧ (0 ≤ l → A l ∧ l ≠ p ∧ l ≠ r) ∧ (0 ≤ pp → A pp ∧ pp ≠ p ∧ pp ≠ r ∧ (0 ≤ l → pp ≠ l)) ∧ -1 ≤ l ∧ (0 ≤ pp ∨ pp = -1 ∧ p = rt) ∧ lt p r ∧ (0 ≤ l → lt l r) := sorry
/-- the law of a rotation, of rotW -/
theorem TI.rotW {W : Int → Int → Int} {A : Int → Prop} {lt : Int → Int → Prop} {L R rt rt' p r l pp : Int} {lo hi : Int → Int} (h : TI W A lt L R rt lo hi) (o : OrdA A lt) (hLR : L ≠ R ∧ L ≠ 6 ∧ R ≠ 6 ∧ L ≠ 10 ∧ R ≠ 10) (hp : A p) (er : W p R = r) (el : W r L = l) (ep : W p 6 = pp) (hr : 0 ≤ r)
    (hrt : (pp = -1 → rt' = r) ∧ (pp ≠ -1 → rt' = rt)) : TI (rotW W L R p r l pp) A lt L R rt' (fu lo r (lo p)) (fu hi p r) := sorry
section RTS
variable {ω : AO} {d G : Nat} {Θ : Th} {A : Int → Prop} {W : Int → Int → Int} {lt : Int → Int → Prop} {rt p x xp xpp : Int} {lo hi : Int → Int} {ns : List Int}
theorem u_J30_rotateLeft {Q : Int → Th → Prop} (hS : TSt Θ A W) (hT : TI W A lt 7 8 rt lo hi) (o : OrdA A lt) (hp : A p) (hQ0 : W p 8 < 0 → Q rt Θ)
    (hQ : 0 ≤ W p 8 → ∀ Θ' rt' lo' hi', GrX A Θ Θ' → TSt Θ' A (rotW W 7 8 p (W p 8) (W (W p 8) 7) (W p 6)) → TI (rotW W 7 8 p (W p 8) (W (W p 8) 7) (W p 6)) A lt 7 8 rt' lo' hi' → Q rt' Θ') : w2_J30_rotateLeft ω d G rt p Θ Q := sorry
theorem u_J30_rotateRight {Q : Int → Th → Prop} (hS : TSt Θ A W) (hT : TI W A lt 7 8 rt lo hi) (o : OrdA A lt) (hp : A p) (hQ0 : W p 7 < 0 → Q rt Θ)
    (hQ : 0 ≤ W p 7 → ∀ Θ' rt' lo' hi', GrX A Θ Θ' → TSt Θ' A (rotW W 8 7 p (W p 7) (W (W p 7) 8) (W p 6)) → TI (rotW W 8 7 p (W p 7) (W (W p 7) 8) (W p 6)) A lt 7 8 rt' lo' hi' → Q rt' Θ') : w2_J30_rotateRight ω d G rt p Θ Q := sorry
/-- fields that a tree's changes do not touch -/
def kpFt (W W' : Int → Int → Int) : Prop := ∀ a j, j ≠ 6 → j ≠ 7 → j ≠ 8 → j ≠ 10 → W' a j = W a j
theorem kpFt.rf : kpFt W W := fun _ _ _ _ _ _ => rfl
theorem kpFt.tr {W1 W2 : Int → Int → Int} (h : kpFt W W1) (h2 : kpFt W1 W2) : kpFt W W2 := sorry
theorem kpFt.col {a x : Int} : kpFt W (wu W a 10 x) := fun _ _ _ _ _ h => wu_n2 h
theorem TI.col {a x : Int} (h : TI W A lt 7 8 rt lo hi) : TI (wu W a 10 x) A lt 7 8 rt lo hi := sorry
/-- what holds at the end -/
def BalQ (Θ : Th) (A : Int → Prop) (W : Int → Int → Int) (lt : Int → Int → Prop) (Q : Int → Th → Prop) : Prop := ∀ Θ' W' rt' lo' hi', GrX A Θ Θ' → TSt Θ' A W' → TI W' A lt 7 8 rt' lo' hi' → kpFt W W' → Q rt' Θ'
theorem BalQ.st {Q : Int → Th → Prop} {Θ1 : Th} {W1 : Int → Int → Int} (h : BalQ Θ A W lt Q) (g : GrX A Θ Θ1) (k : kpFt W W1) (hk : ∀ b, A b → 0 < kd Θ b ∧ kd Θ b < 200) : BalQ Θ1 A W1 lt Q := sorry
/-- the loop's end: nothing above, or what is above is black -/
theorem bal_end {Q : Int → Th → Prop} {g : Nat} (hg : g = 0) (hS : TSt Θ A W) (hT : TI W A lt 7 8 rt lo hi) (hx : A x) (he : W x 6 < 0 ∨ W (W x 6) 10 = 0) (hQ : BalQ Θ A W lt Q) : W2_J30_balanceInsertion_5 ω d G rt x g Θ Q := sorry
/-- x lies on the far side of xp, xp on the same side of xpp: xpp turns -/
theorem bal_turnLeft {Q : Int → Th → Prop} {g : Nat} (hd : 1 ≤ d) (hg : g = 0) (hS : TSt Θ A W) (hT : TI W A lt 7 8 rt lo hi) (o : OrdA A lt) (hx : A x) (hxp : A xp) (hxpp : A xpp) (e1 : W x 6 = xp) (e2 : W xp 6 = xpp) (e3 : W xpp 8 = xp) (e4 : W xp 8 = x) (hQ : BalQ Θ A W lt Q) :
    W2_J30_balanceInsertion_218 ω d G rt x xp xpp g Θ Q := sorry
/-- xp on one side of xpp, x may be on the other side of xp: xp turns first -/
theorem bal_sideLeft {Q : Int → Th → Prop} {g : Nat} (hd : 1 ≤ d) (hg : g = 0) (hS : TSt Θ A W) (hT : TI W A lt 7 8 rt lo hi) (o : OrdA A lt) (hx : A x) (hxp : A xp) (hxpp : A xpp) (e1 : W x 6 = xp) (e2 : W xp 6 = xpp) (e3 : W xpp 8 = xp) (hQ : BalQ Θ A W lt Q) :
    W2_J30_balanceInsertion_184 ω d G rt x xp xpp g Θ Q := sorry
/-- x lies on the far side of xp, xp on the same side of xpp: xpp turns -/
theorem bal_turnRight {Q : Int → Th → Prop} {g : Nat} (hd : 1 ≤ d) (hg : g = 0) (hS : TSt Θ A W) (hT : TI W A lt 7 8 rt lo hi) (o : OrdA A lt) (hx : A x) (hxp : A xp) (hxpp : A xpp) (e1 : W x 6 = xp) (e2 : W xp 6 = xpp) (e3 : W xpp 7 = xp) (e4 : W xp 7 = x) (hQ : BalQ Θ A W lt Q) :
    W2_J30_balanceInsertion_123 ω d G rt x xp xpp g Θ Q := sorry
/-- xp on one side of xpp, x may be on the other side of xp: xp turns first -/
theorem bal_sideRight {Q : Int → Th → Prop} {g : Nat} (hd : 1 ≤ d) (hg : g = 0) (hS : TSt Θ A W) (hT : TI W A lt 7 8 rt lo hi) (o : OrdA A lt) (hx : A x) (hxp : A xp) (hxpp : A xpp) (e1 : W x 6 = xp) (e2 : W xp 6 = xpp) (e3 : W xpp 7 = xp) (hQ : BalQ Θ A W lt Q) :
    W2_J30_balanceInsertion_89 ω d G rt x xp xpp g Θ Q := sorry
theorem u_J30_balanceInsertion {Q : Int → Th → Prop} (hd : 1 ≤ d) (hS : TSt Θ A W) (hT : TI W A lt 7 8 rt lo hi) (o : OrdA A lt) (hns : ∀ a, A a ↔ a ∈ ns) (hx : A x) (hQ : BalQ Θ A W lt Q) : w2_J30_balanceInsertion ω d G rt x Θ Q := sorry
end RTS

/-! 80.ad.lean.txt -/
/-! maps: places of hashes in tables; nodes, their keys; order of keys; finding in trees -/
set_option maxRecDepth 100000
theorem bm_small {k : Nat} (h : k < 2147483648) : Int.bmod (k : Int) 4294967296 = (k : Int) := sorry
theorem andI_nat (x y : Int) : andI x y = Int.bmod (((x % 4294967296).toNat &&& (y % 4294967296).toNat : Nat) : Int) 4294967296 := sorry
theorem nat_and_pw (x e : Nat) : x &&& 2 ^ e = 2 ^ e * (x / 2 ^ e % 2) := sorry
/-- a table's length -/
def pwN (n : Int) : Prop := ∃ e : Nat, 4 ≤ e ∧ e ≤ 24 ∧ n = ((2 ^ e : Nat) : Int)
/-- a hash's place in a table -/
def hpl (n h : Int) : Int := andI (n - 1) h
theorem u32_pos (h : Int) : 0 ≤ h % 4294967296 ∧ h % 4294967296 < 4294967296 := sorry
theorem and_low {e : Nat} (he : e ≤ 30) (h : Int) : andI (((2 ^ e : Nat) : Int) - 1) h = (((h % 4294967296).toNat % 2 ^ e : Nat) : Int) := sorry
theorem and_one {e : Nat} (he : e ≤ 30) (h : Int) : andI h ((2 ^ e : Nat) : Int) = ((2 ^ e * ((h % 4294967296).toNat / 2 ^ e % 2) : Nat) : Int) := sorry
theorem andI_comm (x y : Int) : andI x y = andI y x := by rw [andI_nat, andI_nat, Nat.and_comm]
theorem pwN.pos {n : Int} (h : pwN n) : 16 ≤ n ∧ n ≤ 16777216 := sorry
theorem pwN.dbl {n : Int} (h : pwN n) (hn : n < 16777216) : pwN (n * 2) := sorry
theorem pwN.b16 : pwN 16 := sorry
theorem hpl_in {n : Int} (h : pwN n) (x : Int) : 0 ≤ hpl n x ∧ hpl n x < n := sorry
/-- in a table twice as long a hash stands at its place, or that much further on -/
theorem hpl_dbl {n : Int} (h : pwN n) (x : Int) : (andI x n = 0 → hpl (n * 2) x = hpl n x) ∧ (andI x n ≠ 0 → hpl (n * 2) x = hpl n x + n) := sorry
/-- a key's hash, spread -/
def spd (k : List Int) : Int := xorI (hsh k) (ushrI (hsh k) 16)
theorem spd_in (k : List Int) : -2147483648 ≤ spd k ∧ spd k < 2147483648 := xorI_in _ _
/-- the order of keys in trees -/
def kls (k m : List Int) : Prop := spd k < spd m ∨ spd k = spd m ∧ cmpL k m < 0
theorem kls_ir (k : List Int) : ¬ kls k k := sorry
theorem kls_tr {k l m : List Int} (h : kls k l) (h2 : kls l m) : kls k m := sorry
theorem kls_to {k m : List Int} (h : k ≠ m) : kls k m ∨ kls m k := sorry
/-- nodes as their keys lie -/
def klt (κ : Int → List Int) (a b : Int) : Prop := kls (κ a) (κ b)
def injA (A : Int → Prop) (κ : Int → List Int) : Prop := ∀ a b, A a → A b → κ a = κ b → a = b
theorem klt_ord {A : Int → Prop} {κ : Int → List Int} (h : injA A κ) : OrdA A (klt κ) := sorry
/-- a node's hash and key -/
def NdK (Θ : Th) (κ : Int → List Int) (a : Int) : Prop := (kd Θ a = 12 ∨ kd Θ a = 13) ∧ gt (vv Θ a) (nfi (kd Θ a) 0) = spd (κ a) ∧ Str Θ (gt (vv Θ a) (nfi (kd Θ a) 1)) (κ a) ∧ wide (κ a) = 0
def nvl (Θ : Th) (a : Int) : Int := gt (vv Θ a) (nfi (kd Θ a) 2)
abbrev FW (Θ : Th) (a j : Int) : Int := gt (vv Θ a) j
section NDS
variable {ω : AO} {d G : Nat} {Θ Θ1 : Th} {A : Int → Prop} {κ : Int → List Int} {ex : Int → Prop} {a : Int} {W : Int → Int → Int}
theorem NdK.keep (h : NdK Θ κ a) (g : GrX ex Θ Θ1) (hn : ¬ ex a) : NdK Θ1 κ a ∧ nvl Θ1 a = nvl Θ a ∧ kd Θ1 a = kd Θ a := sorry
theorem TSt.fw (h : TSt Θ A W) : TSt Θ A (FW Θ) := fun a ha => ⟨(h a ha).1, fun _ _ _ => rfl⟩
theorem TSt.fwe (h : TSt Θ A W) {j : Int} (ha : A a) (hj : 0 ≤ j ∧ j < 11) : FW Θ a j = W a j := h.rd ha hj
theorem TI.fw {lt : Int → Int → Prop} {rt : Int} {lo hi : Int → Int} (h : TI W A lt 7 8 rt lo hi) (s : TSt Θ A W) : TI (FW Θ) A lt 7 8 rt lo hi := sorry
/-- tree nodes with their keys -/
theorem NdK.t (h : NdK Θ κ a) (hk : kd Θ a = 13) : gt (vv Θ a) 2 = spd (κ a) ∧ Str Θ (gt (vv Θ a) 3) (κ a) ∧ wide (κ a) = 0 ∧ nvl Θ a = gt (vv Θ a) 4 := sorry
theorem NdK.mkT (hk : kd Θ a = 13) (h2 : gt (vv Θ a) 2 = spd (κ a)) (h3 : Str Θ (gt (vv Θ a) 3) (κ a)) (h4 : wide (κ a) = 0) : NdK Θ κ a := sorry
theorem NdK.p (h : NdK Θ κ a) (hk : kd Θ a = 12) : gt (vv Θ a) 0 = spd (κ a) ∧ Str Θ (gt (vv Θ a) 1) (κ a) ∧ wide (κ a) = 0 ∧ nvl Θ a = gt (vv Θ a) 2 := sorry
theorem NdK.mkP (hk : kd Θ a = 12) (h2 : gt (vv Θ a) 0 = spd (κ a)) (h3 : Str Θ (gt (vv Θ a) 1) (κ a)) (h4 : wide (κ a) = 0) : NdK Θ κ a := sorry
end NDS
/-- the Class object of String -/
def scl (ω : AO) : Int := (ω.2.2.1 "#M" 0 : Int)

/-! 80.ad2.lean.txt -/
/-! maps: the classes of keys, keys compared: OWED (u_J9_compareComparables: String.compareTo) -/
set_option maxRecDepth 100000
section CMP
variable {ω : AO} {d G : Nat} {Θ : Th} {a b : Int} {k m : List Int}
theorem u_J9_comparableClassFor {Q : Int → Th → Prop} (hd : 2 ≤ d) (hs : Str Θ a k) (hQ : Q (scl ω) Θ) : w2_J9_comparableClassFor ω d G a Θ Q := sorry
theorem u_J9_compareComparables {Q : Int → Th → Prop} (hd : 7 ≤ d) (hs : Str Θ a k) (hm : Str Θ b m) (hw : wide k = 0) (hw' : wide m = 0) (hQ : Q (cmpL k m) Θ) : w2_J9_compareComparables ω d G (scl ω) a b Θ Q := sorry
end CMP

/-! 80.ae.lean.txt -/
/-! maps: classes of keys, comparing (owed here: 80.cc), finding a key in a tree, the root to the front -/
set_option maxRecDepth 100000
section FND
variable {ω : AO} {d G : Nat} {Θ : Th} {A : Int → Prop} {κ : Int → List Int} {rt p kr kc h : Int} {lo hi : Int → Int} {ns : List Int} {k : List Int}
theorem NdK.tk (hS : TSt Θ A (FW Θ)) {a : Int} (ha : A a) (h : NdK Θ κ a) : FW Θ a 2 = spd (κ a) ∧ Str Θ (FW Θ a 3) (κ a) ∧ wide (κ a) = 0 := sorry
/-- where a key is, if it is in a tree at all: in the subtree of p -/
def hinP (A : Int → Prop) (κ : Int → List Int) (k : List Int) (lo hi : Int → Int) (p : Int) : Prop := ∀ t, A t → κ t = k → abv (klt κ) (lo p) t ∧ blw (klt κ) (hi p) t
theorem find_L {W : Int → Int → Int} (hT : TI W A (klt κ) 7 8 rt lo hi) (o : OrdA A (klt κ)) (hns : ∀ a, A a ↔ a ∈ ns) (hp : A p) (hin : hinP A κ k lo hi p) (hl : ∀ t, A t → κ t = k → klt κ t p) :
    (W p 7 = -1 ∧ ∀ t, A t → κ t ≠ k) ∨ (0 ≤ W p 7 ∧ A (W p 7) ∧ mea (klt κ) lo hi ns (W p 7) < mea (klt κ) lo hi ns p ∧ hinP A κ k lo hi (W p 7)) := sorry
theorem find_R {W : Int → Int → Int} (hT : TI W A (klt κ) 7 8 rt lo hi) (o : OrdA A (klt κ)) (hns : ∀ a, A a ↔ a ∈ ns) (hp : A p) (hin : hinP A κ k lo hi p) (hl : ∀ t, A t → κ t = k → klt κ p t) :
    (W p 8 = -1 ∧ ∀ t, A t → κ t ≠ k) ∨ (0 ≤ W p 8 ∧ A (W p 8) ∧ mea (klt κ) lo hi ns (W p 8) < mea (klt κ) lo hi ns p ∧ hinP A κ k lo hi (W p 8)) := sorry
theorem u_J30_find {Q : Int → Th → Prop} (hd : 8 ≤ d) (hS : TSt Θ A (FW Θ)) (hT : TI (FW Θ) A (klt κ) 7 8 rt lo hi) (hK : ∀ a, A a → NdK Θ κ a) (hi2 : injA A κ) (hns : ∀ a, A a ↔ a ∈ ns) (hs : Str Θ kr k) (hw : wide k = 0) (kr0 : 0 ≤ kr) (hh : h = spd k) (hp : A p) (hin : hinP A κ k lo hi p) (hkc : kc = -1 ∨ kc = scl ω)
    (hQ : ∀ r, (r = -1 ∧ ∀ t, A t → κ t ≠ k) ∨ (A r ∧ κ r = k) → Q r Θ) : w2_J30_find ω d G p h kr kc Θ Q := sorry
theorem TI.hin0 {W : Int → Int → Int} (hT : TI W A (klt κ) 7 8 rt lo hi) : hinP A κ k lo hi rt := fun t _ _ => ⟨Or.inl hT.1.2.2.1, Or.inl hT.1.2.2.2⟩
theorem u_J30_getTreeNode {Q : Int → Th → Prop} (hd : 9 ≤ d) (hS : TSt Θ A (FW Θ)) (hT : TI (FW Θ) A (klt κ) 7 8 rt lo hi) (hK : ∀ a, A a → NdK Θ κ a) (hi2 : injA A κ) (hns : ∀ a, A a ↔ a ∈ ns) (hs : Str Θ kr k) (hw : wide k = 0) (kr0 : 0 ≤ kr) (hh : h = spd k)
    (hQ : ∀ r, (r = -1 ∧ ∀ t, A t → κ t ≠ k) ∨ (A r ∧ κ r = k) → Q r Θ) : w2_J30_getTreeNode ω d G rt h kr Θ Q := sorry
end FND
/-- a list of tree nodes: next is field 5, prev field 9 -/
def DS (W : Int → Int → Int) : Int → Int → List Int → Int → Prop
  | _, f, [], e => f = e
  | pv, f, a :: r, e => f = a ∧ W a 9 = pv ∧ DS W a (W a 5) r e
section DSS
variable {W W' : Int → Int → Int} {pv f e : Int}
theorem DS.cong : ∀ {us : List Int} {pv f e : Int}, DS W pv f us e → (∀ a, a ∈ us → W' a 5 = W a 5 ∧ W' a 9 = W a 9) → DS W' pv f us e := sorry
theorem DS.split : ∀ {us vs : List Int} {pv f e : Int}, DS W pv f (us ++ vs) e ↔ ∃ m, DS W pv f us m ∧ DS W (us.getLastD pv) m vs e := sorry
/-- the end of a list points elsewhere -/
theorem DS.last {z e' : Int} : ∀ {us : List Int} {pv f e : Int}, DS W pv f (us ++ [z]) e → z ∉ us → (∀ a, a ∈ us → W' a 5 = W a 5 ∧ W' a 9 = W a 9) → W' z 9 = W z 9 → W' z 5 = e' → DS W' pv f (us ++ [z]) e' := sorry
/-- the first of a list gets another one ahead of it -/
theorem DS.first {pv' a : Int} {r : List Int} (h : DS W pv f (a :: r) e) (ha : a ∉ r) (hc : ∀ b, b ∈ r → W' b 5 = W b 5 ∧ W' b 9 = W b 9) (h5 : W' a 5 = W a 5) (h9 : W' a 9 = pv') : DS W' pv' f (a :: r) e := sorry
theorem DS.head {a : Int} {r : List Int} (h : DS W pv f (a :: r) e) : f = a := h.1
theorem DS.nxt {us vs : List Int} {z : Int} (h : DS W pv f (us ++ z :: vs) (-1)) (h0 : ∀ a, a ∈ vs → 0 ≤ a) : W z 9 = us.getLastD pv ∧ W z 5 = vs.headD (-1) ∧ DS W z (W z 5) vs (-1) := sorry
end DSS
section MRF
variable {ω : AO} {d G : Nat} {Θ : Th} {rt t f n : Int} {ns tb : List Int}
/-- the root of a tree comes to the front of its list and to the table -/
theorem u_J30_moveRootToFront {Q : Th → Prop} (hS : TSt Θ (· ∈ ns) (FW Θ)) (hD : DS (FW Θ) (-1) f ns (-1)) (hN : ns.Nodup) (h0 : ∀ a, a ∈ ns → 0 ≤ a) (hr : rt ∈ ns) (ht : xo Θ t = (107, tb, 0, 0)) (ft : ¬ fz Θ t) (t0 : 0 ≤ t) (hi : 0 ≤ hpl (len tb) (FW Θ rt 2) ∧ hpl (len tb) (FW Θ rt 2) < len tb) (hf : gt tb (hpl (len tb) (FW Θ rt 2)) = f)
    (hQ : ∀ Θ' ns', GrX (fun z => z ∈ ns ∨ z = t) Θ Θ' → TSt Θ' (· ∈ ns) (FW Θ') → xo Θ' t = (107, tb.set (hpl (len tb) (FW Θ rt 2)).toNat rt, 0, 0) → DS (FW Θ') (-1) rt ns' (-1) → ns'.Perm ns → (∀ a j, a ∈ ns → 0 ≤ j → j < 11 → j ≠ 5 → j ≠ 9 → FW Θ' a j = FW Θ a j) → Q Θ') : w2_J30_moveRootToFront ω d G t rt Θ Q := sorry
end MRF

/-! 80.af.lean.txt -/
/-! maps: new nodes; a list of tree nodes becomes a tree -/
set_option maxRecDepth 100000
theorem pfx {Θ Θ1 : Th} {a k x c e : Int} {t : Nat} {l : List Int} (h : xo Θ a = (t, l, c, e)) (tt : Θ1 = pf Θ a k x) : xo Θ1 a = (t, l.set k.toNat x, c, e) := by rw [tt, xo_pfA, kd_of h, vl_of h, cp_of h, cx_of h]
section NWN
variable {ω : AO} {d G : Nat} {Θ : Th} {a m h kr v nx x0 x1 x2 x3 x4 x5 x6 x7 x8 x9 x10 : Int}
theorem u_J28_initP {Q : Th → Prop} (hd : 1 ≤ d) (hx : xo Θ a = (12, [x0, x1, x2, x3], 0, 0)) (hf : ¬ fz Θ a) (a0 : 0 ≤ a) (hI : inI h) (hk : -1 ≤ kr) (hv : -1 ≤ v) (hn : -1 ≤ nx) (hQ : ∀ Θ', GrX (· = a) Θ Θ' → xo Θ' a = (12, [h, kr, v, nx], 0, 0) → ¬ fz Θ' a → Q Θ') : w2_J28_init ω d G a h kr v nx Θ Q := sorry
theorem u_J28_initT {Q : Th → Prop} (hd : 1 ≤ d) (hx : xo Θ a = (13, [x0, x1, x2, x3, x4, x5, x6, x7, x8, x9, x10], 0, 0)) (hf : ¬ fz Θ a) (a0 : 0 ≤ a) (hI : inI h) (hk : -1 ≤ kr) (hv : -1 ≤ v) (hn : -1 ≤ nx) (hQ : ∀ Θ', GrX (· = a) Θ Θ' → xo Θ' a = (13, [x0, x1, h, kr, v, nx, x6, x7, x8, x9, x10], 0, 0) → ¬ fz Θ' a → Q Θ') : w2_J28_init ω d G a h kr v nx Θ Q := sorry
theorem gr_nuG {Θ0 Θ1 : Th} {c : Cl} (B : Bl Θ) (u : nt Θ ≤ a) (t : Θ0 = nu Θ a c) (g : GrX (· = a) Θ0 Θ1) : Gr Θ Θ1 ∧ kd Θ a = 0 ∧ ¬ fz Θ0 a ∧ xo Θ0 a = c := sorry
theorem u_J9_newNode {Q : Int → Th → Prop} (hd : 2 ≤ d) (hI : inI h) (hk : -1 ≤ kr) (hv : -1 ≤ v) (hn : -1 ≤ nx) (hG : 1 ≤ G) (hQ : ∀ a Θ', Gr Θ Θ' → kd Θ a = 0 → 0 ≤ a → xo Θ' a = (12, [h, kr, v, nx], 0, 0) → ¬ fz Θ' a → Q a Θ') : w2_J9_newNode ω d G m h kr v nx Θ Q := sorry
theorem u_J9_newTreeNode {Q : Int → Th → Prop} (hd : 4 ≤ d) (hI : inI h) (hk : -1 ≤ kr) (hv : -1 ≤ v) (hn : -1 ≤ nx) (hG : 3 ≤ G) (hQ : ∀ a Θ', Gr Θ Θ' → kd Θ a = 0 → 0 ≤ a → xo Θ' a = (13, [-1, -1, h, kr, v, nx, -1, -1, -1, -1, 0], 0, 0) → ¬ fz Θ' a → Q a Θ') : w2_J9_newTreeNode ω d G m h kr v nx Θ Q := sorry
theorem u_J9_replacementNode {Q : Int → Th → Prop} (hd : 2 ≤ d) (hka : kd Θ a = 12 ∨ kd Θ a = 13) (hI : inI (gt (vv Θ a) (nfi (kd Θ a) 0))) (hk : -1 ≤ gt (vv Θ a) (nfi (kd Θ a) 1)) (hv : -1 ≤ gt (vv Θ a) (nfi (kd Θ a) 2)) (hn : -1 ≤ nx) (hG : 1 ≤ G)
    (hQ : ∀ b Θ', Gr Θ Θ' → kd Θ b = 0 → 0 ≤ b → xo Θ' b = (12, [gt (vv Θ a) (nfi (kd Θ a) 0), gt (vv Θ a) (nfi (kd Θ a) 1), gt (vv Θ a) (nfi (kd Θ a) 2), nx], 0, 0) → ¬ fz Θ' b → Q b Θ') : w2_J9_replacementNode ω d G m a nx Θ Q := sorry
theorem u_J9_replacementTreeNode {Q : Int → Th → Prop} (hd : 4 ≤ d) (hka : kd Θ a = 12 ∨ kd Θ a = 13) (hI : inI (gt (vv Θ a) (nfi (kd Θ a) 0))) (hk : -1 ≤ gt (vv Θ a) (nfi (kd Θ a) 1)) (hv : -1 ≤ gt (vv Θ a) (nfi (kd Θ a) 2)) (hn : -1 ≤ nx) (hG : 3 ≤ G)
    (hQ : ∀ b Θ', Gr Θ Θ' → kd Θ b = 0 → 0 ≤ b → xo Θ' b = (13, [-1, -1, gt (vv Θ a) (nfi (kd Θ a) 0), gt (vv Θ a) (nfi (kd Θ a) 1), gt (vv Θ a) (nfi (kd Θ a) 2), nx, -1, -1, -1, -1, 0], 0, 0) → ¬ fz Θ' b → Q b Θ') : w2_J9_replacementTreeNode ω d G m a nx Θ Q := sorry
end NWN
/-- a bucket that is a tree -/
def BkT (Θ : Th) (κ : Int → List Int) (f : Int) (ns : List Int) : Prop := ns ≠ [] ∧ TSt Θ (· ∈ ns) (FW Θ) ∧ DS (FW Θ) (-1) f ns (-1) ∧ ∃ lo hi, TI (FW Θ) (· ∈ ns) (klt κ) 7 8 f lo hi
/-! the key's content when the new node x is to be placed: left or right of p -/
section TFY
variable {ω : AO} {d G : Nat} {Θ : Th} {t f ix : Int} {ns tb : List Int} {κ : Int → List Int}
/-- a new node comes below one that has nothing there; the tree is balanced -/
theorem tree_ins {R : Int → Th → Prop} {us : List Int} {rt x xp : Int} {lo hi : Int → Int} {Θ1 Θ2 Θ3 : Th} (left : Bool) (hd : 1 ≤ d) (hS : TSt Θ1 (· ∈ us ++ [x]) (FW Θ1)) (hT : TI (FW Θ1) (· ∈ us) (klt κ) 7 8 rt lo hi) (hi2 : injA (· ∈ us ++ [x]) κ) (hx : x ∉ us) (x0 : 0 ≤ x) (hxp : xp ∈ us) (h7 : FW Θ1 x 7 = -1) (h8 : FW Θ1 x 8 = -1)
    (hn : FW Θ1 xp (if left = true then 7 else 8) = -1) (hl : if left = true then klt κ x xp else klt κ xp x) (hb : if left = true then abv (klt κ) (lo xp) x else blw (klt κ) (hi xp) x) (t2 : Θ2 = pf Θ1 x 6 xp) (t3 : Θ3 = pf Θ2 xp (if left = true then 7 else 8) x)
    (hR : ∀ Θ' rt' lo' hi', GrX (· ∈ us ++ [x]) Θ1 Θ' → TSt Θ' (· ∈ us ++ [x]) (FW Θ') → TI (FW Θ') (· ∈ us ++ [x]) (klt κ) 7 8 rt' lo' hi' → (∀ a j, a ∈ us ++ [x] → 0 ≤ j → j < 11 → j ≠ 6 → j ≠ 7 → j ≠ 8 → j ≠ 10 → FW Θ' a j = FW Θ1 a j) → R rt' Θ') : w2_J30_balanceInsertion ω d G rt x Θ3 R := sorry
theorem u_J30_treeify {Q : Th → Prop} (hd : 10 ≤ d) (hS : TSt Θ (· ∈ ns) (FW Θ)) (hD : DS (FW Θ) (-1) f ns (-1)) (hN : ns.Nodup) (h0 : ∀ a, a ∈ ns → 0 ≤ a) (hne : ns ≠ []) (hK : ∀ a, a ∈ ns → NdK Θ κ a) (hi2 : injA (· ∈ ns) κ) (ht : xo Θ t = (107, tb, 0, 0)) (ft : ¬ fz Θ t) (t0 : 0 ≤ t) (hix : 0 ≤ ix ∧ ix < len tb) (hpx : ∀ a, a ∈ ns → hpl (len tb) (spd (κ a)) = ix) (hf : gt tb ix = f)
    (hQ : ∀ Θ' rt ns', GrX (fun z => z ∈ ns ∨ z = t) Θ Θ' → ns'.Perm ns → BkT Θ' κ rt ns' → xo Θ' t = (107, tb.set ix.toNat rt, 0, 0) → (∀ a, a ∈ ns → NdK Θ' κ a ∧ nvl Θ' a = nvl Θ a) → Q Θ') : w2_J30_treeify ω d G f t Θ Q := sorry
end TFY

/-! 80.ag.lean.txt -/
/-! maps: a key comes into a tree -/
set_option maxRecDepth 100000
section PTV
variable {ω : AO} {d G : Nat} {Θ : Th} {t f ix m h kr v : Int} {ns tb k : List Int} {κ : Int → List Int}
theorem tree_ins2 {R : Int → Th → Prop} {us : List Int} {rt x xp : Int} {lo hi : Int → Int} {Θ3 : Th} {W1 W3 : Int → Int → Int} (left : Bool) (hd : 1 ≤ d) (S3 : TSt Θ3 (· ∈ us ++ [x]) W3) (hT : TI W1 (· ∈ us) (klt κ) 7 8 rt lo hi) (hi2 : injA (· ∈ us ++ [x]) κ) (hx : x ∉ us) (x0 : 0 ≤ x) (hxp : xp ∈ us)
    (hn : W1 xp (if left = true then 7 else 8) = -1) (hl : if left = true then klt κ x xp else klt κ xp x) (hb : if left = true then abv (klt κ) (lo xp) x else blw (klt κ) (hi xp) x)
    (e1 : W3 xp (if left = true then 7 else 8) = x ∧ W3 xp (if left = true then 8 else 7) = W1 xp (if left = true then 8 else 7) ∧ W3 xp 6 = W1 xp 6) (e2 : W3 x 6 = xp ∧ W3 x 7 = -1 ∧ W3 x 8 = -1) (e3 : ∀ a, a ∈ us → a ≠ xp → W3 a 7 = W1 a 7 ∧ W3 a 8 = W1 a 8 ∧ W3 a 6 = W1 a 6)
    (hR : ∀ Θ' rt' lo' hi', GrX (· ∈ us ++ [x]) Θ3 Θ' → TSt Θ' (· ∈ us ++ [x]) (FW Θ') → TI (FW Θ') (· ∈ us ++ [x]) (klt κ) 7 8 rt' lo' hi' → (∀ a j, a ∈ us ++ [x] → 0 ≤ j → j < 11 → j ≠ 6 → j ≠ 7 → j ≠ 8 → j ≠ 10 → FW Θ' a j = W3 a j) → R rt' Θ') : w2_J30_balanceInsertion ω d G rt x Θ3 R := sorry
/-- x comes behind xp in a list -/
theorem DS.insB {W W3 : Int → Int → Int} {us vs : List Int} {xp x : Int} (hD : DS W (-1) f (us ++ xp :: vs) (-1)) (hN : (us ++ xp :: vs).Nodup) (hx : x ∉ us ++ xp :: vs) (h0 : ∀ a, a ∈ vs → 0 ≤ a)
    (E5 : ∀ a, (a ∈ us ++ xp :: vs ∨ a = x) → W3 a 5 = if a = xp then x else if a = x then W xp 5 else W a 5) (E9 : ∀ a, (a ∈ us ++ xp :: vs ∨ a = x) → W3 a 9 = if a = x then xp else if 0 ≤ W xp 5 ∧ a = W xp 5 then x else W a 9) : DS W3 (-1) f (us ++ xp :: x :: vs) (-1) := sorry
theorem u_J30_putTreeVal {Q : Int → Th → Prop} (hd : 12 ≤ d) (hB : BkT Θ κ f ns) (hN : ns.Nodup) (h0 : ∀ a, a ∈ ns → 0 ≤ a) (hK : ∀ a, a ∈ ns → NdK Θ κ a) (hi2 : injA (· ∈ ns) κ) (hpx : ∀ a, a ∈ ns → hpl (len tb) (spd (κ a)) = ix) (ht : xo Θ t = (107, tb, 0, 0)) (ft : ¬ fz Θ t) (t0 : 0 ≤ t) (hix : 0 ≤ ix ∧ ix < len tb) (hf : gt tb ix = f)
    (hm : kd Θ m = 4) (hs : Str Θ kr k) (hw : wide k = 0) (kr0 : 0 ≤ kr) (hh : h = spd k) (hkx : hpl (len tb) (spd k) = ix) (hnew : ∀ a, a ∈ ns → κ a ≠ k) (hv : -1 ≤ v) (hG : 3 ≤ G)
    (hQ : ∀ Θ' x rt ns' κ', GrX (fun z => z ∈ ns ∨ z = t) Θ Θ' → kd Θ x = 0 → 0 ≤ x → ns'.Perm (x :: ns) → (∀ a, a ≠ x → κ' a = κ a) → κ' x = k → BkT Θ' κ' rt ns' → xo Θ' t = (107, tb.set ix.toNat rt, 0, 0) → (∀ a, a ∈ ns → NdK Θ' κ' a ∧ nvl Θ' a = nvl Θ a) → NdK Θ' κ' x ∧ nvl Θ' x = v → Q (-1) Θ') : w2_J30_putTreeVal ω d G f m t h kr v Θ Q := sorry
end PTV

/-! 80.ah.lean.txt -/
/-! maps: chains of plain nodes; buckets; chains become trees, trees chains -/
set_option maxRecDepth 100000
def Nd12 (Θ : Th) (a : Int) : Prop := kd Θ a = 12 ∧ len (vv Θ a) = 4 ∧ ¬ fz Θ a
/-- a chain of plain nodes from f on to e -/
def CS (Θ : Th) : Int → List Int → Int → Prop
  | f, [], e => f = e
  | f, a :: r, e => f = a ∧ Nd12 Θ a ∧ CS Θ (gt (vv Θ a) 3) r e
/-- what nodes tell of keys -/
def LkO (Θ : Th) (κ : Int → List Int) (ns : List Int) (k : List Int) (v : Int) : Prop := (v = -1 ∧ ∀ a, a ∈ ns → κ a ≠ k) ∨ ∃ a, a ∈ ns ∧ κ a = k ∧ nvl Θ a = v
/-- nodes of a bucket: where they stand -/
def NsO (Θ : Th) (κ : Int → List Int) (n i : Int) (ns : List Int) : Prop := (ns.map κ).Nodup ∧ ∀ a, a ∈ ns → NdK Θ κ a ∧ hpl n (spd (κ a)) = i ∧ 0 ≤ a ∧ 0 ≤ nvl Θ a
/-- a bucket of a table -/
def BkO (Θ : Th) (n i f : Int) (ns : List Int) (M : List Int → Int) : Prop := ∃ κ, (CS Θ f ns (-1) ∨ BkT Θ κ f ns) ∧ NsO Θ κ n i ns ∧ ∀ k, wide k = 0 → hpl n (spd k) = i → LkO Θ κ ns k (M k)
section CSS
variable {Θ Θ1 : Th} {f e n i : Int} {ex : Int → Prop} {κ κ1 : Int → List Int} {ns : List Int} {M : List Int → Int}
theorem Nd12.keep {a : Int} (h : Nd12 Θ a) (g : GrX ex Θ Θ1) (hn : ¬ ex a) : Nd12 Θ1 a ∧ vv Θ1 a = vv Θ a := sorry
theorem CS.keep : ∀ {us : List Int} {f e : Int}, CS Θ f us e → GrX ex Θ Θ1 → (∀ a, a ∈ us → ¬ ex a) → CS Θ1 f us e := sorry
theorem CS.split : ∀ {us vs : List Int} {f e : Int}, CS Θ f (us ++ vs) e ↔ ∃ m, CS Θ f us m ∧ CS Θ m vs e := sorry
theorem CS.nd : ∀ {us : List Int} {f e : Int}, CS Θ f us e → ∀ a, a ∈ us → Nd12 Θ a := sorry
/-- the last of a chain points elsewhere -/
theorem CS.last {us : List Int} {z x : Int} (h : CS Θ f us z) (hz : Nd12 Θ z) (hn : z ∉ us) (t : Θ1 = pf Θ z 3 x) : CS Θ1 f (us ++ [z]) x ∧ GrX (· = z) Θ Θ1 ∧ Nd12 Θ1 z := sorry
theorem BkT.keep (h : BkT Θ κ f ns) (g : GrX ex Θ Θ1) (hn : ∀ a, a ∈ ns → ¬ ex a) (hk : ∀ a, a ∈ ns → κ1 a = κ a) : BkT Θ1 κ1 f ns := sorry
theorem NsO.keep (h : NsO Θ κ n i ns) (g : GrX ex Θ Θ1) (hn : ∀ a, a ∈ ns → ¬ ex a) : NsO Θ1 κ n i ns ∧ ∀ a, a ∈ ns → nvl Θ1 a = nvl Θ a := sorry
theorem LkO.of {Θ2 : Th} {κ2 : Int → List Int} {k : List Int} {v : Int} (h : LkO Θ κ ns k v) (e : ∀ a, a ∈ ns → κ2 a = κ a ∧ nvl Θ2 a = nvl Θ a) : LkO Θ2 κ2 ns k v := sorry
theorem BkO.keep (h : BkO Θ n i f ns M) (g : GrX ex Θ Θ1) (hn : ∀ a, a ∈ ns → ¬ ex a) : BkO Θ1 n i f ns M := sorry
theorem injA_of : ∀ {ns : List Int}, (ns.map κ).Nodup → injA (· ∈ ns) κ := sorry
theorem nod_of : ∀ {ns : List Int}, (ns.map κ).Nodup → ns.Nodup := sorry
theorem NsO.inj (h : NsO Θ κ n i ns) : injA (· ∈ ns) κ := injA_of h.1
theorem NsO.nod (h : NsO Θ κ n i ns) : ns.Nodup := nod_of h.1
/-- a bucket's nodes are known by their hash -/
def hsN (Θ : Th) (a : Int) : Int := gt (vv Θ a) (nfi (kd Θ a) 0)
theorem BkO.hs (h : BkO Θ n i f ns M) {a : Int} (ha : a ∈ ns) : hpl n (hsN Θ a) = i ∧ (kd Θ a = 12 ∨ kd Θ a = 13) ∧ 0 ≤ a ∧ ¬ fz Θ a := sorry
theorem BkO.dis {i' f' : Int} {ns' : List Int} {M' : List Int → Int} (h : BkO Θ n i f ns M) (h' : BkO Θ n i' f' ns' M') (hne : i ≠ i') : ∀ a, a ∈ ns → a ∉ ns' := fun a ha y => hne ((h.hs ha).1.symm.trans (h'.hs y).1)
theorem BkO.nil (h : BkO Θ n i (-1) ns M) : ns = [] ∧ ∀ k, wide k = 0 → hpl n (spd k) = i → M k = -1 := sorry
theorem BkO.mknil (hM : ∀ k, wide k = 0 → hpl n (spd k) = i → M k = -1) : BkO Θ n i (-1) [] M := sorry
theorem BkO.hd (h : BkO Θ n i f ns M) (hf : 0 ≤ f) : ∃ r, ns = f :: r := sorry
theorem BkO.hm (h : BkO Θ n i f ns M) : f = -1 ∨ 0 ≤ f := sorry
end CSS
/-- what nodes hold, one by one -/
def enE (Θ : Th) (κ : Int → List Int) (ns : List Int) : List (List Int × Int) := ns.map (fun a => (κ a, nvl Θ a))
theorem en_keys {Θ : Th} {κ : Int → List Int} {ns : List Int} : (enE Θ κ ns).map (fun p => p.1) = ns.map κ := by unfold enE; rw [List.map_map]; rfl
theorem en_cong {Θ Θ1 : Th} {κ κ1 : Int → List Int} {ns : List Int} (h : ∀ a, a ∈ ns → κ1 a = κ a ∧ nvl Θ1 a = nvl Θ a) : enE Θ1 κ1 ns = enE Θ κ ns := sorry
/-- the same told by other nodes -/
theorem LkO.ent {Θ Θ1 : Th} {κ κ1 : Int → List Int} {ns ns1 : List Int} (h : (enE Θ κ ns).Perm (enE Θ1 κ1 ns1)) {k : List Int} {v : Int} (hl : LkO Θ κ ns k v) : LkO Θ1 κ1 ns1 k v := sorry
theorem NsO.keys {Θ Θ1 : Th} {κ κ1 : Int → List Int} {ns ns1 : List Int} (h : (enE Θ κ ns).Perm (enE Θ1 κ1 ns1)) (hN : (ns.map κ).Nodup) : (ns1.map κ1).Nodup := sorry
section UNT
variable {ω : AO} {d G : Nat} {Θ : Th} {m f : Int} {ns : List Int} {κ : Int → List Int}
/-- a list of tree nodes becomes a chain of plain ones -/
theorem u_J30_untreeify {Q : Int → Th → Prop} (hd : 4 ≤ d) (hm : kd Θ m = 4) (hS : TSt Θ (· ∈ ns) (FW Θ)) (hD : DS (FW Θ) (-1) f ns (-1)) (h0 : ∀ a, a ∈ ns → 0 ≤ a) (hK : ∀ a, a ∈ ns → NdK Θ κ a ∧ -1 ≤ nvl Θ a) (hG : ns.length ≤ G)
    (hQ : ∀ Θ' f' ts κ', Gr Θ Θ' → (∀ b, b ∈ ts → kd Θ b = 0 ∧ 0 ≤ b) → ts.Nodup → CS Θ' f' ts (-1) → enE Θ' κ' ts = enE Θ κ ns → (∀ b, b ∈ ts → NdK Θ' κ' b) → -1 ≤ f' → Q f' Θ') : w2_J30_untreeify ω d G f m Θ Q := sorry
end UNT

/-! 80.ai.lean.txt -/
/-! maps: a bucket becomes a tree; a tree is split when the table grows -/
set_option maxRecDepth 100000
section PRT
variable {Θ Θ1 : Th} {n i f : Int} {κ κ1 : Int → List Int} {ns ls : List Int} {M : List Int → Int}
theorem BkO.mkE {N : Int} (hb : CS Θ1 f ns (-1) ∨ BkT Θ1 κ1 f ns) (he : (enE Θ κ ls).Perm (enE Θ1 κ1 ns)) (hK : ∀ a, a ∈ ns → NdK Θ1 κ1 a ∧ 0 ≤ a) (hN : NsO Θ κ N i ls) (hM : ∀ k, wide k = 0 → hpl N (spd k) = i → LkO Θ κ ls k (M k)) : BkO Θ1 N i f ns M := sorry
/-- which half of a table twice as long -/
def loBk (κ : Int → List Int) (n : Int) (a : Int) : Bool := decide (andI (spd (κ a)) n = 0)
def hiB (κ : Int → List Int) (n : Int) (a : Int) : Bool := !decide (andI (spd (κ a)) n = 0)
theorem NsO.filt {P : Int → Bool} {N j : Int} (h : NsO Θ κ n i ns) (hp : ∀ a, a ∈ ns → P a = true → hpl N (spd (κ a)) = j) : NsO Θ κ N j (ns.filter P) := sorry
theorem part_lo (hn : pwN n) (hi : 0 ≤ i ∧ i < n) (h : NsO Θ κ n i ns) (hM : ∀ k, wide k = 0 → hpl n (spd k) = i → LkO Θ κ ns k (M k)) :
    NsO Θ κ (n * 2) i (ns.filter (loBk κ n)) ∧ ∀ k, wide k = 0 → hpl (n * 2) (spd k) = i → LkO Θ κ (ns.filter (loBk κ n)) k (M k) := sorry
theorem part_hi (hn : pwN n) (hi : 0 ≤ i ∧ i < n) (h : NsO Θ κ n i ns) (hM : ∀ k, wide k = 0 → hpl n (spd k) = i → LkO Θ κ ns k (M k)) :
    NsO Θ κ (n * 2) (i + n) (ns.filter (hiB κ n)) ∧ ∀ k, wide k = 0 → hpl (n * 2) (spd k) = i + n → LkO Θ κ (ns.filter (hiB κ n)) k (M k) := sorry
end PRT
/-- tree nodes made of plain ones so far -/
def TbI (Θ : Th) (κ : Int → List Int) (us ts : List Int) (hd0 tl : Int) (Θ1 : Th) (κ1 : Int → List Int) : Prop :=
  Gr Θ Θ1 ∧ (∀ b, b ∈ ts → kd Θ b = 0 ∧ 0 ≤ b) ∧ ts.Nodup ∧ TSt Θ1 (· ∈ ts) (FW Θ1) ∧ DS (FW Θ1) (-1) hd0 ts (-1) ∧ enE Θ1 κ1 ts = enE Θ κ us ∧ (∀ b, b ∈ ts → NdK Θ1 κ1 b) ∧ ((ts = [] ∧ hd0 = -1 ∧ tl = -1) ∨ ∃ ts', ts = ts' ++ [tl])
section TFB
variable {ω : AO} {d G : Nat} {Θ : Th} {t f ix m h : Int} {ns tb : List Int} {κ : Int → List Int}
theorem tb_step {Q : Th → Prop} {us ts : List Int} {hd0 tl a : Int} {Θ1 : Th} {κ1 : Int → List Int} {g : Nat} (hd : 5 ≤ d) (hm : kd Θ m = 4) (ha : Nd12 Θ a) (a0 : 0 ≤ a) (hKa : NdK Θ κ a) (hva : -1 ≤ nvl Θ a) (hG : g + 3 ≤ G) (hI : TbI Θ κ us ts hd0 tl Θ1 κ1)
    (K : ∀ hd2 Θ2 ts2 κ2 b, TbI Θ κ (us ++ [a]) ts2 hd2 b Θ2 κ2 → 0 ≤ hd2 → W2_J9_treeifyBin_78 ω d G m t ix a hd2 b (g + 3) Θ2 Q) : W2_J9_treeifyBin_43 ω d G m t ix a hd0 tl g Θ1 Q := sorry
theorem set_set {l : List Int} {i : Nat} {x y : Int} : (l.set i x).set i y = l.set i y := List.set_set _
/-- a bucket of plain nodes becomes a tree -/
theorem u_J9_treeifyBin_T {Q : Th → Prop} (hd : 12 ≤ d) (hm : kd Θ m = 4) (ht : xo Θ t = (107, tb, 0, 0)) (ft : ¬ fz Θ t) (t0 : 0 ≤ t) (h64 : 64 ≤ len tb) (hix : 0 ≤ ix ∧ ix < len tb) (hp : hpl (len tb) h = ix) (hf : gt tb ix = f) (hC : CS Θ f ns (-1)) (hN : NsO Θ κ (len tb) ix ns) (hne : ns ≠ []) (hG : 3 * ns.length ≤ G)
    (hQ : ∀ Θ' rt ns' κ', GrX (· = t) Θ Θ' → (∀ b, b ∈ ns' → kd Θ b = 0 ∧ 0 ≤ b) → BkT Θ' κ' rt ns' → (∀ b, b ∈ ns' → NdK Θ' κ' b) → (enE Θ κ ns).Perm (enE Θ' κ' ns') → xo Θ' t = (107, tb.set ix.toNat rt, 0, 0) → Q Θ') : w2_J9_treeifyBin ω d G m t h Θ Q := sorry
end TFB

/-! 80.aj.lean.txt -/
/-! maps: a tree is split -/
set_option maxRecDepth 100000
/-- one more at the end of a list -/
theorem DS.push {W W' : Int → Int → Int} {h a : Int} {ls : List Int} (hD : DS W (-1) h ls (-1)) (hN : ls.Nodup) (h5 : W' a 5 = -1) (h9 : W' a 9 = ls.getLastD (-1)) (hz : ∀ z, z ∈ ls → W' z 9 = W z 9 ∧ W' z 5 = if z = ls.getLastD (-1) then a else W z 5) : DS W' (-1) (if ls = [] then a else h) (ls ++ [a]) (-1) := sorry
theorem DS.hd0 {W : Int → Int → Int} {pv h : Int} {ls : List Int} (hD : DS W pv h ls (-1)) (h0 : ∀ z, z ∈ ls → 0 ≤ z) : (ls = [] ∧ h = -1) ∨ (ls ≠ [] ∧ 0 ≤ h ∧ h ∈ ls) := sorry
theorem lastD_mem {ls : List Int} (h : ls ≠ []) : ls.getLastD (-1) ∈ ls := sorry
/-- one half of a tree that is split -/
def HfI (Θ : Th) (κ : Int → List Int) (Θ1 : Th) (h : Int) (ls : List Int) : Prop := TSt Θ1 (· ∈ ls) (FW Θ1) ∧ DS (FW Θ1) (-1) h ls (-1) ∧ ∀ a, a ∈ ls → NdK Θ1 κ a ∧ nvl Θ1 a = nvl Θ a
theorem HfI.keep {Θ Θ1 Θ2 : Th} {κ : Int → List Int} {h : Int} {ls : List Int} {ex : Int → Prop} (H : HfI Θ κ Θ1 h ls) (g : GrX ex Θ1 Θ2) (hn : ∀ a, a ∈ ls → ¬ ex a) : HfI Θ κ Θ2 h ls := sorry
section SPL
variable {ω : AO} {d G : Nat} {Θ : Th} {t f i n m : Int} {ns tb : List Int} {κ : Int → List Int} {M : List Int → Int}
/-- a half becomes a chain again -/
theorem half_U {Q : Int → Th → Prop} {Θ1 : Th} {h N j : Int} {ls : List Int} (hd : 4 ≤ d) (hm : kd Θ1 m = 4) (H : HfI Θ κ Θ1 h ls) (hN : NsO Θ κ N j ls) (hM : ∀ k, wide k = 0 → hpl N (spd k) = j → LkO Θ κ ls k (M k)) (hG : ls.length ≤ G)
    (hQ : ∀ Θ' f' ts, Gr Θ1 Θ' → (∀ b, b ∈ ts → kd Θ1 b = 0) → BkO Θ' N j f' ts M → -1 ≤ f' → (f' = -1 ∨ kd Θ' f' = 12 ∨ kd Θ' f' = 13) → ts.length = ls.length → Q f' Θ') : w2_J30_untreeify ω d G h m Θ1 Q := sorry
/-- a half becomes a tree anew -/
theorem half_T {Q : Th → Prop} {Θ1 : Th} {h j : Int} {ls tb1 : List Int} (hd : 10 ≤ d) (H : HfI Θ κ Θ1 h ls) (hne : ls ≠ []) (hN : NsO Θ κ (len tb1) j ls) (hM : ∀ k, wide k = 0 → hpl (len tb1) (spd k) = j → LkO Θ κ ls k (M k)) (ht : xo Θ1 t = (107, tb1, 0, 0)) (ft : ¬ fz Θ1 t) (t0 : 0 ≤ t) (hj : 0 ≤ j ∧ j < len tb1) (hf : gt tb1 j = h)
    (hQ : ∀ Θ' rt n1, GrX (fun z => z ∈ ls ∨ z = t) Θ1 Θ' → (∀ b, b ∈ n1 → b ∈ ls) → BkO Θ' (len tb1) j rt n1 M → xo Θ' t = (107, tb1.set j.toNat rt, 0, 0) → n1.length = ls.length → Q Θ') : w2_J30_treeify ω d G h t Θ1 Q := sorry
theorem u_J30_split {Q : Th → Prop} (hd : 12 ≤ d) (hm : kd Θ m = 4) (hB : BkT Θ κ f ns) (hN : NsO Θ κ n i ns) (hM : ∀ k, wide k = 0 → hpl n (spd k) = i → LkO Θ κ ns k (M k)) (hn : pwN n) (hi : 0 ≤ i ∧ i < n) (ht : xo Θ t = (107, tb, 0, 0)) (ft : ¬ fz Θ t) (t0 : 0 ≤ t) (hl : len tb = n * 2) (hi1 : gt tb i = -1) (hi2 : gt tb (i + n) = -1) (hlen : ns.length ≤ 1000000) (hG : 12 ≤ G)
    (hQ : ∀ Θ' tb' n1 n2, GrX (fun z => z ∈ ns ∨ z = t) Θ Θ' → xo Θ' t = (107, tb', 0, 0) → len tb' = len tb → (∀ j, 0 ≤ j → j ≠ i → j ≠ i + n → gt tb' j = gt tb j) → BkO Θ' (n * 2) i (gt tb' i) n1 M → BkO Θ' (n * 2) (i + n) (gt tb' (i + n)) n2 M → (∀ z, z ∈ n1 ∨ z ∈ n2 → z ∈ ns ∨ kd Θ z = 0) → n1.length ≤ ns.length → n2.length ≤ ns.length → Q Θ') : w2_J30_split ω d G f m t i n Θ Q := sorry
end SPL

/-! 80.ak.lean.txt -/
/-! maps: the table grows -/
set_option maxRecDepth 100000
/-- a table with its buckets -/
def TblO (Θ : Th) (t n : Int) (tb : List Int) (B : Int → List Int) (M : List Int → Int) : Prop := xo Θ t = (107, tb, 0, 0) ∧ ¬ fz Θ t ∧ 0 ≤ t ∧ len tb = n ∧ pwN n ∧ ∀ i, 0 ≤ i → i < n → BkO Θ n i (gt tb i) (B i) M
/-- all nodes of a table -/
def allB (n : Int) (B : Int → List Int) : List Int := (List.range n.toNat).flatMap (fun i : Nat => B (i : Int))
theorem allB_mem {n : Int} {B : Int → List Int} {z : Int} : z ∈ allB n B ↔ ∃ i, 0 ≤ i ∧ i < n ∧ z ∈ B i := sorry
theorem TblO.nd {Θ : Th} {t n : Int} {tb : List Int} {B : Int → List Int} {M : List Int → Int} (h : TblO Θ t n tb B M) {z : Int} (hz : z ∈ allB n B) : (kd Θ z = 12 ∨ kd Θ z = 13) ∧ 0 ≤ z ∧ ¬ fz Θ z := sorry
section RSZ
variable {ω : AO} {d G : Nat} {Θ : Th} {h t n ks vs es sz mc thr lf : Int} {tb : List Int} {B : Int → List Int} {M : List Int → Int}
/-- partition of a chain: what is done so far -/
def RsI (Θ : Th) (us : List Int) (h T : Int) (Θ1 : Th) : Prop := (us = [] ∧ h = -1 ∧ T = -1) ∨ ∃ us', us = us' ++ [T] ∧ CS Θ1 h us' T ∧ Nd12 Θ1 T
theorem RsI.keep {Θ1 Θ2 : Th} {us : List Int} {h T : Int} {ex : Int → Prop} (H : RsI Θ us h T Θ1) (g : GrX ex Θ1 Θ2) (hn : ∀ a, a ∈ us → ¬ ex a) : RsI Θ us h T Θ2 := sorry
/-- a chain is parted in two -/
theorem u_resize235 {Q : Int → Th → Prop} {t1 j f g0 : Int} {ns tb1 : List Int} {κ : Int → List Int} {g : Nat} {Θ0 : Th} (hS : CS Θ0 f ns (-1)) (hf : 0 ≤ f) (hN : NsO Θ0 κ n j ns) (hn : pwN n) (hj : 0 ≤ j ∧ j < n) (ht1 : xo Θ0 t1 = (107, tb1, 0, 0)) (f1 : ¬ fz Θ0 t1) (t10 : 0 ≤ t1) (hl1 : len tb1 = n * 2) (hM : ∀ k, wide k = 0 → hpl n (spd k) = j → LkO Θ0 κ ns k (M k)) (hz1 : gt tb1 j = -1) (hz2 : gt tb1 (j + n) = -1)
    (K : ∀ Θ' tb' n1 n2, GrX (fun z => z ∈ ns ∨ z = t1) Θ0 Θ' → xo Θ' t1 = (107, tb', 0, 0) → len tb' = len tb1 → (∀ i, 0 ≤ i → i ≠ j → i ≠ j + n → gt tb' i = gt tb1 i) → BkO Θ' (n * 2) j (gt tb' j) n1 M → BkO Θ' (n * 2) (j + n) (gt tb' (j + n)) n2 M → (∀ z, z ∈ n1 ∨ z ∈ n2 → z ∈ ns) → n1.length ≤ ns.length → n2.length ≤ ns.length → W2_J9_resize_151 ω d G h t n (n * 2) t1 (j + 1) g Θ' Q) :
    W2_J9_resize_235 ω d G h t n (n * 2) t1 j f (-1) (-1) (-1) (-1) g Θ0 Q := sorry
/-- the new buckets: in a table twice as long -/
theorem u_resize151 {Q : Int → Th → Prop} (hd : 14 ≤ d) (hh : kd Θ h = 4) (hT : TblO Θ t n tb B M) (hn8 : n ≤ 8388608) (hlen : ∀ i, 0 ≤ i → i < n → (B i).length ≤ 1000000) {t1 : Int} {tb1 : List Int} (ht1 : xo Θ t1 = (107, tb1, 0, 0)) (f1 : ¬ fz Θ t1) (t10 : 0 ≤ t1) (hl1 : len tb1 = n * 2) (hz : ∀ i, 0 ≤ i → i < n * 2 → gt tb1 i = -1) (htt : t1 ≠ t) {g : Nat} (hG : g + 12 * n.toNat ≤ G)
    (hQ : ∀ Θ' tb' B', GrX (fun z => z = t ∨ z = t1 ∨ z ∈ allB n B) Θ Θ' → TblO Θ' t1 (n * 2) tb' B' M → (∀ z, z ∈ allB (n * 2) B' → z ∈ allB n B ∨ kd Θ z = 0) → (∀ i, 0 ≤ i → i < n * 2 → ∃ j, 0 ≤ j ∧ j < n ∧ (B' i).length ≤ (B j).length) → Q t1 Θ') : W2_J9_resize_151 ω d G h t n (n * 2) t1 0 g Θ Q := sorry
end RSZ

/-! 80.al.lean.txt -/
/-! maps: resize, getNode, get, putVal, put -/
set_option maxRecDepth 100000
section RZ
variable {ω : AO} {d G : Nat} {Θ : Th} {h t n ks vs es sz mc thr lf kr v : Int} {tb k : List Int} {B : Int → List Int} {M : List Int → Int}
theorem TblO.keep {Θ1 : Th} {ex : Int → Prop} (H : TblO Θ t n tb B M) (g : GrX ex Θ Θ1) (h1 : ¬ ex t) (h2 : ∀ z, z ∈ allB n B → ¬ ex z) : TblO Θ1 t n tb B M := sorry
theorem TblO.hk (H : TblO Θ t n tb B M) {b : Int} (hb : b = t ∨ b ∈ allB n B) : 0 < kd Θ b ∧ kd Θ b < 200 := sorry
theorem TblO.nt (H : TblO Θ t n tb B M) : ∀ z, z ∈ allB n B → z ≠ t := sorry
theorem TblO.nh (H : TblO Θ t n tb B M) (hk : kd Θ h = 4) : h ≠ t ∧ ∀ z, z ∈ allB n B → z ≠ h := sorry
theorem rep_len {m : Nat} : len (List.replicate m (-1)) = (m : Int) := by unfold len; rw [List.length_replicate]
/-- the first table -/
theorem u_J9_resize0 {Q : Int → Th → Prop} (hx : xo Θ h = (4, [ks, vs, -1, es, sz, mc, 0, lf], 0, 0)) (hf : ¬ fz Θ h) (hG : 5 ≤ G) (hM : ∀ k, M k = -1)
    (hQ : ∀ Θ' t' tb', GrX (· = h) Θ Θ' → kd Θ t' = 0 → xo Θ' h = (4, [ks, vs, t', es, sz, mc, 12, lf], 0, 0) → ¬ fz Θ' h → TblO Θ' t' 16 tb' (fun _ => []) M → Q t' Θ') : w2_J9_resize ω d G h Θ Q := sorry
/-- the table doubles -/
theorem u_J9_resizeN {Q : Int → Th → Prop} (hd : 14 ≤ d) (hx : xo Θ h = (4, [ks, vs, t, es, sz, mc, thr, lf], 0, 0)) (hf : ¬ fz Θ h) (hT : TblO Θ t n tb B M) (hthr : thr = n / 4 * 3) (hn8 : n ≤ 8388608) (hlen : ∀ i, 0 ≤ i → i < n → (B i).length ≤ 1000000) (hG : 13 * n + 2 ≤ (G : Int))
    (hQ : ∀ Θ' t' tb' B', GrX (fun z => z = h ∨ z = t ∨ z ∈ allB n B) Θ Θ' → kd Θ t' = 0 → xo Θ' h = (4, [ks, vs, t', es, sz, mc, n * 2 / 4 * 3, lf], 0, 0) → ¬ fz Θ' h → TblO Θ' t' (n * 2) tb' B' M → (∀ z, z ∈ allB (n * 2) B' → z ∈ allB n B ∨ kd Θ z = 0) → (∀ i, 0 ≤ i → i < n * 2 → ∃ j, 0 ≤ j ∧ j < n ∧ (B' i).length ≤ (B j).length) → Q t' Θ') : w2_J9_resize ω d G h Θ Q := sorry
/-- a key's node in a plain chain -/
theorem u_getNode99 {Q : Int → Th → Prop} {κ : Int → List Int} {i : Int} {ns : List Int} (hd : 2 ≤ d) (hN : NsO Θ κ n i ns) (hs : Str Θ kr k) (kr0 : 0 ≤ kr) (hQ : ∀ r, (r = -1 ∧ ∀ a, a ∈ ns → κ a ≠ k) ∨ (r ∈ ns ∧ κ r = k) → Q r Θ) :
    ∀ (vs us : List Int) (x : Int) (g : Nat), g = 0 → ns = us ++ x :: vs → CS Θ x (x :: vs) (-1) → (∀ a, a ∈ us → κ a ≠ k) → W2_J9_getNode_99 ω d G kr x (spd k) g Θ Q ∧ (κ x ≠ k → W2_J9_getNode_137 ω d G kr x (spd k) g Θ Q) := sorry
/-- what a map holds -/
def HMO (Θ : Th) (h : Int) (F : List Int) (n sz : Int) (M : List Int → Int) : Prop := ∃ t ks vs es thr lf tb B, xo Θ h = (4, [ks, vs, t, es, sz, sz, thr, lf], 0, 0) ∧ ¬ fz Θ h ∧ 0 ≤ h ∧ 0 ≤ sz ∧ sz ≤ 100000 ∧
  ((t = -1 ∧ n = 0 ∧ sz = 0 ∧ thr = 0 ∧ F = [h] ∧ ∀ k, M k = -1) ∨
   (TblO Θ t n tb B M ∧ thr = n / 4 * 3 ∧ sz ≤ thr ∧ (n ≤ 64 ∨ n / 8 * 3 < sz) ∧ (∀ i, 0 ≤ i → i < n → ((B i).length : Int) ≤ sz) ∧ F = h :: t :: allB n B))
theorem HMO.hk {F : List Int} (H : HMO Θ h F n sz M) : ∀ z, z ∈ F → 0 < kd Θ z ∧ kd Θ z < 200 := sorry
theorem HMO.kd {F : List Int} (H : HMO Θ h F n sz M) : kd Θ h = 4 := sorry
theorem HMO.keep {Θ1 : Th} {F : List Int} {ex : Int → Prop} (H : HMO Θ h F n sz M) (g : GrX ex Θ Θ1) (hn : ∀ z, z ∈ F → ¬ ex z) : HMO Θ1 h F n sz M := sorry
/-- a map as an item -/
def hmI (h : Int) (F : List Int) (n sz : Int) (M : List Int → Int) : It := (F, fun Θ => HMO Θ h F n sz M)
theorem hmI_stb {F : List Int} : stb (hmI h F n sz M) := fun Θ Θ1 ex g hn H => HMO.keep H g hn
theorem u_J9_hash {Q : Int → Th → Prop} (hd : 5 ≤ d) (hs : Str Θ kr k) (hw : wide k = 0) (kr0 : 0 ≤ kr) (hQ : Q (spd k) Θ) : w2_J9_hash ω d G kr Θ Q := sorry
/-- where a key's node is -/
theorem u_J9_getNode {Q : Int → Th → Prop} {F : List Int} (hd : 11 ≤ d) (H : HMO Θ h F n sz M) (hs : Str Θ kr k) (hw : wide k = 0) (kr0 : 0 ≤ kr) (hQ : ∀ r, (r = -1 ∧ M k = -1) ∨ (0 ≤ r ∧ (kd Θ r = 12 ∨ kd Θ r = 13) ∧ nvl Θ r = M k) → Q r Θ) : w2_J9_getNode ω d G h kr Θ Q := sorry
theorem u_J9_get {Q : Int → Th → Prop} {F : List Int} (hd : 12 ≤ d) (H : HMO Θ h F n sz M) (hs : Str Θ kr k) (hw : wide k = 0) (kr0 : 0 ≤ kr) (hQ : Q (M k) Θ) : w2_J9_get ω d G h kr Θ Q := sorry
theorem u_J9_init {Q : Th → Prop} {x0 x1 x2 x3 x7 : Int} (hd : 3 ≤ d) (hx : xo Θ h = (4, [x0, x1, -1, x3, 0, 0, 0, x7], 0, 0)) (hf : ¬ fz Θ h) (h0 : 0 ≤ h) (hM : ∀ k, M k = -1) (hQ : ∀ Θ', GrX (· = h) Θ Θ' → HMO Θ' h [h] 0 0 M → Q Θ') : w2_J9_init ω d G h Θ Q := sorry
end RZ

/-! 80.am.lean.txt -/
/-! maps: put, of a key that is not there -/
set_option maxRecDepth 100000
/-- what a put may cost -/
def pG (n sz : Int) : Int := 3 + (if n = 0 then 215 else if n < 64 ∨ n / 4 * 3 < sz + 1 then 13 * n + 2 else 0) + 3 * (sz + 1)
def upM (M : List Int → Int) (k : List Int) (v : Int) : List Int → Int := fun z => if z = k then v else M z
def upF (B : Int → List Int) (i : Int) (l : List Int) : Int → List Int := fun j => if j = i then l else B j
section PUT
variable {ω : AO} {d G : Nat} {Θ : Th} {h t n ks vs es sz thr lf kr v : Int} {tb k : List Int} {B : Int → List Int} {M : List Int → Int}
theorem TblO.upd {Θ1 : Th} {tb1 nb : List Int} {i : Int} {M1 : List Int → Int} {ex : Int → Prop} (H : TblO Θ t n tb B M) (g : GrX ex Θ Θ1) (hi : 0 ≤ i ∧ i < n) (hex : ∀ z, z ∈ allB n B → ex z → z ∈ B i) (x1 : xo Θ1 t = (107, tb1, 0, 0)) (f1 : ¬ fz Θ1 t) (l1 : len tb1 = len tb) (k1 : ∀ j, 0 ≤ j → j < n → j ≠ i → gt tb1 j = gt tb j) (hb : BkO Θ1 n i (gt tb1 i) nb M1) (hM : ∀ z, wide z = 0 → hpl n (spd z) ≠ i → M1 z = M z) : TblO Θ1 t n tb1 (upF B i nb) M1 := sorry
theorem u_put259 {Q : Int → Th → Prop} {g : Nat} (hd : 16 ≤ d) (hx : xo Θ h = (4, [ks, vs, t, es, sz, sz, thr, lf], 0, 0)) (hf : ¬ fz Θ h) (h0 : 0 ≤ h) (hT : TblO Θ t n tb B M) (hthr : thr = n / 4 * 3) (hs0 : 0 ≤ sz ∧ sz < 90000) (hs1 : sz ≤ thr) (hn : n ≤ 64 ∨ n / 8 * 3 < sz + 1) (hB : ∀ i, 0 ≤ i → i < n → ((B i).length : Int) ≤ sz + 1) (hg : g ≤ G) (hG : thr < sz + 1 → (g : Int) + (13 * n + 2) ≤ (G : Int))
    (hQ : ∀ Θ' F' n', GrX (fun z => z = h ∨ z = t ∨ z ∈ allB n B) Θ Θ' → HMO Θ' h F' n' (sz + 1) M → (∀ z, z ∈ F' → (z = h ∨ z = t ∨ z ∈ allB n B) ∨ kd Θ z = 0) → Q (-1) Θ') : W2_J9_putVal_259 ω d G h 1 g Θ Q := sorry
/-- the table after a node has come to a bucket -/
theorem u_put29 {Q : Int → Th → Prop} {g : Nat} (hd : 17 ≤ d) (hx : xo Θ h = (4, [ks, vs, t, es, sz, sz, thr, lf], 0, 0)) (hf : ¬ fz Θ h) (h0 : 0 ≤ h) (hT : TblO Θ t n tb B M) (hthr : thr = n / 4 * 3) (hs0 : 0 ≤ sz ∧ sz < 90000) (hs1 : sz ≤ thr) (hn : n ≤ 64 ∨ n / 8 * 3 < sz) (hB : ∀ i, 0 ≤ i → i < n → ((B i).length : Int) ≤ sz) (hs : Str Θ kr k) (hw : wide k = 0) (kr0 : 0 ≤ kr) (hv : 0 ≤ v) (hM : M k = -1)
    (hG : (g : Int) + 3 + (if n < 64 ∨ thr < sz + 1 then 13 * n + 2 else 0) + 3 * (sz + 1) ≤ (G : Int))
    (hQ : ∀ Θ' F' n', GrX (fun z => z = h ∨ z = t ∨ z ∈ allB n B) Θ Θ' → HMO Θ' h F' n' (sz + 1) (upM M k v) → (∀ z, z ∈ F' → (z = h ∨ z = t ∨ z ∈ allB n B) ∨ kd Θ z = 0) → Q (-1) Θ') : W2_J9_putVal_29 ω d G h (spd k) kr v 0 1 t n g Θ Q := sorry
theorem u_J9_put {Q : Int → Th → Prop} {F : List Int} (hd : 20 ≤ d) (H : HMO Θ h F n sz M) (hs : Str Θ kr k) (hw : wide k = 0) (kr0 : 0 ≤ kr) (hv : 0 ≤ v) (hM : M k = -1) (hsz : sz < 90000) (hG : pG n sz ≤ (G : Int))
    (hQ : ∀ Θ' F' n', GrX (· ∈ F) Θ Θ' → HMO Θ' h F' n' (sz + 1) (upM M k v) → (∀ z, z ∈ F' → z ∈ F ∨ kd Θ z = 0) → Q (-1) Θ') : w2_J9_put ω d G h kr v Θ Q := sorry
/-- a map, its table hidden -/
def HMS (Θ : Th) (h : Int) (F : List Int) (sz : Int) (M : List Int → Int) : Prop := ∃ n, HMO Θ h F n sz M
def hmS (h : Int) (F : List Int) (sz : Int) (M : List Int → Int) : It := (F, fun Θ => HMS Θ h F sz M)
theorem hmS_stb {F : List Int} {sz : Int} : stb (hmS h F sz M) := fun Θ Θ1 ex g hn ⟨n, H⟩ => ⟨n, HMO.keep H g hn⟩
theorem HMS.live {F : List Int} (H : HMS Θ h F sz M) : live Θ F := fun z hz => by
  obtain ⟨n, H⟩ := H
  exact H.hk z hz
theorem HMS.kd {F : List Int} (H : HMS Θ h F sz M) : kd Θ h = 4 := by
  obtain ⟨n, H⟩ := H
  exact H.kd
/-- what a put may cost, by the number of entries alone -/
def pS (sz : Int) : Int := 6 + 3 * sz + (if sz < 48 then 423 else if sz % 48 = 0 then 13 * (sz / 3 * 4) + 2 else 0)
theorem u_J9_getS {Q : Int → Th → Prop} {F : List Int} (hd : 12 ≤ d) (H : HMS Θ h F sz M) (hs : Str Θ kr k) (hw : wide k = 0) (kr0 : 0 ≤ kr) (hQ : Q (M k) Θ) : w2_J9_get ω d G h kr Θ Q := sorry
theorem u_J9_putS {Q : Int → Th → Prop} {F : List Int} (hd : 20 ≤ d) (H : HMS Θ h F sz M) (hs : Str Θ kr k) (hw : wide k = 0) (kr0 : 0 ≤ kr) (hv : 0 ≤ v) (hM : M k = -1) (hsz : sz < 90000) (hG : pS sz ≤ (G : Int))
    (hQ : ∀ Θ' F', GrX (· ∈ F) Θ Θ' → HMS Θ' h F' (sz + 1) (upM M k v) → (∀ z, z ∈ F' → z ∈ F ∨ kd Θ z = 0) → Q (-1) Θ') : w2_J9_put ω d G h kr v Θ Q := sorry
end PUT

