/-! 88.aa.lean.txt -/
/-! segments -/
set_option maxRecDepth 100000
def w2_X1_may (ω : AO) (d G : Nat) (l0 : Int) (Θ : Th) (Q : Th → Prop) : Prop := Hid (∀ S, bel S → R2 ω S Θ → Ctr ω yX1_may cX1_may 1 none d G [(0, l0)] S (eU S (q2U ω Θ Q)))
def w2_X1_want (ω : AO) (d G : Nat) (l0 : Int) (Θ : Th) (Q : Th → Prop) : Prop := Hid (∀ S, bel S → R2 ω S Θ → Ctr ω yX1_want cX1_want 1 none d G [(0, l0)] S (eU S (q2U ω Θ Q)))
def w2_X1_write (ω : AO) (d G : Nat) (l0 l1 : Int) (Θ : Th) (Q : Int → Th → Prop) : Prop := Hid (∀ S, bel S → R2 ω S Θ → Ctr ω yX1_write cX1_write 2 (some .int) d G [(2, l0), (0, l1)] S (eI S (q2 ω Θ Q)))
def w2_X1_rename (ω : AO) (d G : Nat) (l0 : Int) (Θ : Th) (Q : Th → Prop) : Prop := Hid (∀ S, bel S → R2 ω S Θ → Ctr ω yX1_rename cX1_rename 5 none d G [(2, l0)] S (eU S (q2U ω Θ Q)))
def w2_X1_delete (ω : AO) (d G : Nat) (l0 : Int) (Θ : Th) (Q : Int → Th → Prop) : Prop := Hid (∀ S, bel S → R2 ω S Θ → Ctr ω yX1_delete cX1_delete 2 (some .boolean) d G [(2, l0)] S (eZ S (q2 ω Θ Q)))
def w2_X1_tag (ω : AO) (d G : Nat) (l0 l1 l2 : Int) (Θ : Th) (Q : Int → Th → Prop) : Prop := Hid (∀ S, bel S → R2 ω S Θ → Ctr ω yX1_tag cX1_tag 5 (some .boolean) d G [(2, l0), (0, l1), (0, l2)] S (eZ S (q2 ω Θ Q)))
def w2_X1_dump (ω : AO) (d G : Nat) (l0 : Int) (Θ : Th) (Q : Int → Th → Prop) : Prop := Hid (∀ S, bel S → R2 ω S Θ → Ctr ω yX1_dump cX1_dump 4 (some .int) d G [(2, l0)] S (eI S (q2 ω Θ Q)))
def w2_X1_restore (ω : AO) (d G : Nat) (l0 : Int) (Θ : Th) (Q : Int → Th → Prop) : Prop := Hid (∀ S, bel S → R2 ω S Θ → Ctr ω yX1_restore cX1_restore 11 (some .int) d G [(2, l0)] S (eI S (q2 ω Θ Q)))
def w2_X1_scan (ω : AO) (d G : Nat) (l0 : Int) (Θ : Th) (Q : Int → Th → Prop) : Prop := Hid (∀ S, bel S → R2 ω S Θ → Ctr ω yX1_scan cX1_scan 9 (some .int) d G [(2, l0)] S (eI S (q2 ω Θ Q)))
theorem lm_X1_350 : VLk RX1 350 15 yX1_find cX1_find 3 (some (.object "MailWorks$Stored")) 1 := sorry
theorem lm_X1_354 : SLk RX1 354 yX1_may cX1_may 1 none 1 := sorry
theorem lm_X1_358 : VLk RX1 358 15 yX1_put cX1_put 6 none 3 := sorry
theorem lm_X1_362 : SLk RX1 362 yX1_want cX1_want 1 none 1 := sorry
theorem lr_X1_331_26 : FLkR RX1 331 26 3 .int := sorry
theorem lm_X1_365 : VLk RX1 365 15 yX1_remove cX1_remove 2 none 1 := sorry
theorem lm_X1_639 : SLk RX1 639 yX1_canBePut cX1_canBePut 1 (some .boolean) 1 := sorry
theorem lm_X1_642 : VLk RX1 642 30 yX17_remove cX17_remove 3 (some (.object "java/lang/Object")) 1 := sorry
theorem lm_X1_645 : VLk RX1 645 30 yX17_put cX17_put 4 (some (.object "java/lang/Object")) 2 := sorry
theorem lm_X1_656 : SLk RX1 656 yX1_lineLength cX1_lineLength 3 (some .int) 1 := sorry
theorem lm_X1_660 : VLk RX1 660 15 yX1_nextLine cX1_nextLine 5 (some (.object "MailWorks$Mail")) 1 := sorry
theorem lm_X1_664 : VLk RX1 664 1 yJ1_append_3 cJ1_append_3 2 (some (.object "java/lang/StringBuilde\x72")) 1 := sorry
theorem lm_X1_669 : VLk RX1 669 2 yJ2_substring cJ2_substring 5 (some (.object "java/lang/String")) 2 := sorry
theorem lm_X1_673 : ILk RX1 673 yX52_init cX52_init 5 1 := sorry
theorem lr_X1_674_57 : FLkR RX1 674 57 2 .boolean := sorry
theorem lr_X1_677_57 : FLkR RX1 677 57 0 (.object "java/lang/String") := sorry
theorem lm_X1_678 : VLk RX1 678 30 yX17_clear cX17_clear 1 none 0 := sorry
theorem lr_X1_679_57 : FLkR RX1 679 57 1 (.object "MailWorks$Sorted") := sorry
theorem lr_X1_430_21 : FLkR RX1 430 21 7 .int := sorry
theorem lm_X1_434 : VLk RX1 434 15 yX1_messagesToRead cX1_messagesToRead 4 (some .int) 0 := sorry
theorem lm_X1_437 : SLk RX1 437 yJ11_fill_2 cJ11_fill_2 4 none 2 := sorry
theorem lr_X1_446_29 : FLkR RX1 446 29 6 (.object "java/util/ArrayList") := sorry
theorem lm_X1_449 : VLk RX1 449 3 yJ7_clear cJ7_clear 4 none 0 := sorry
theorem lm_X1_452 : VLk RX1 452 15 yX1_forget cX1_forget 5 none 1 := sorry
theorem lf_X1_334_26 : FLk RX1 334 26 4 (.object "java/lang/String") false := sorry
theorem lf_X1_455_26 : FLk RX1 455 26 5 .int false := sorry
theorem lr_X1_381_29 : FLkR RX1 381 29 7 .boolean := sorry
theorem lm_X1_458 : VLk RX1 458 15 yX1_mailOf cX1_mailOf 4 (some (.object "MailWorks$Mail")) 1 := sorry
theorem lm_X1_462 : VLk RX1 462 29 yX16_add cX16_add 4 none 2 := sorry
theorem lm_X1_465 : VLk RX1 465 29 yX16_isElsewhere cX16_isElsewhere 3 (some .boolean) 0 := sorry
theorem lm_X1_472 : VLk RX1 472 15 yX1_enter cX1_enter 3 none 1 := sorry
set_option maxHeartbeats 4000000 in
theorem s2_X1_may {ω : AO} {d G : Nat} {l0 : Int} {Θ : Th} {Q : Th → Prop} (hB : (-2147483648 ≤ l0 ∧ l0 < 2147483648) ∧ (∀ (c1 : ¬ l0 = 0), Q Θ) ∧ (∀ (c1 : l0 = 0), False)) : w2_X1_may ω d G l0 Θ Q := sorry
set_option maxHeartbeats 4000000 in
theorem s2_X1_want {ω : AO} {d G : Nat} {l0 : Int} {Θ : Th} {Q : Th → Prop} (hB : (-2147483648 ≤ l0 ∧ l0 < 2147483648) ∧ (∀ (c1 : ¬ l0 = 0), Q Θ) ∧ (∀ (c1 : l0 = 0), False)) : w2_X1_want ω d G l0 Θ Q := sorry
def W2_X1_write_31 (ω : AO) (d G : Nat) (l0 l1 : Int) (g : Nat) (Θ : Th) (Q : Int → Th → Prop) : Prop := Hid (SJ2 ω yX1_write cX1_write 2 (some .int) d G (fun Sz Θz => (eI Sz (q2 ω Θz Q))) 31 [(2, l0), (0, l1)] [] g Θ)
def W2_X1_write_27 (ω : AO) (d G : Nat) (l0 l1 : Int) (g : Nat) (Θ : Th) (Q : Int → Th → Prop) : Prop := Hid (SJ2 ω yX1_write cX1_write 2 (some .int) d G (fun Sz Θz => (eI Sz (q2 ω Θz Q))) 27 [(2, l0), (0, l1)] [] g Θ)
def W2_X1_write_32 (ω : AO) (d G : Nat) (l0 l1 s0 : Int) (g : Nat) (Θ : Th) (Q : Int → Th → Prop) : Prop := Hid (SJ2 ω yX1_write cX1_write 2 (some .int) d G (fun Sz Θz => (eI Sz (q2 ω Θz Q))) 32 [(2, l0), (0, l1)] [(0, s0)] g Θ)
set_option maxHeartbeats 4000000 in
theorem s2_X1_write {ω : AO} {d G : Nat} {l0 l1 : Int} {Θ : Th} {Q : Int → Th → Prop} (hB : (kd Θ l0 = 15) ∧ ∀ (v1 : Int) (e1 : v1 = gt (vv Θ l0) 14) (r1 : -1 ≤ v1), (∀ (c4 : v1 < 0), W2_X1_write_31 ω d G l0 l1 (0) Θ Q) ∧ (∀ (c4 : 0 ≤ v1), ∀ (v8 : Int) (e8 : v8 = gt (vv Θ l0) 15) (r8 : -2147483648 ≤ v8 ∧ v8 < 2147483648), (∀ (c13 : v8 < 40), W2_X1_write_27 ω d G l0 l1 (0) Θ Q) ∧ (∀ (c13 : 40 ≤ v8), ∀ (v18 : Int) (e18 : v18 = gt (vv Θ l0) 14) (r18 : -1 ≤ v18), (1 ≤ d) ∧ ∃ G21 : Nat, (0 + G21 ≤ G) ∧ w2_X1_find ω (d - 1) G21 l0 v18 Θ (fun x21 Θ21 => ∀ (L21 : Le Θ Θ21) (r21 : -1 ≤ x21), (∀ (c24 : x21 < 0), W2_X1_write_31 ω d G l0 l1 (0 + G21) Θ21 Q) ∧ (∀ (c24 : 0 ≤ x21), W2_X1_write_27 ω d G l0 l1 (0 + G21) Θ21 Q))))) : w2_X1_write ω d G l0 l1 Θ Q := sorry
set_option maxHeartbeats 4000000 in
theorem s2_X1_write_31 {ω : AO} {d G : Nat} {l0 l1 : Int} {g : Nat} {Θ : Th} {Q : Int → Th → Prop} (hB : W2_X1_write_32 ω d G l0 l1 0 (g) Θ Q) : W2_X1_write_31 ω d G l0 l1 g Θ Q := sorry
set_option maxHeartbeats 4000000 in
theorem s2_X1_write_27 {ω : AO} {d G : Nat} {l0 l1 : Int} {g : Nat} {Θ : Th} {Q : Int → Th → Prop} (hB : W2_X1_write_32 ω d G l0 l1 1 (g) Θ Q) : W2_X1_write_27 ω d G l0 l1 g Θ Q := sorry
set_option maxHeartbeats 4000000 in
theorem s2_X1_write_32 {ω : AO} {d G : Nat} {l0 l1 s0 : Int} {g : Nat} {Θ : Th} {Q : Int → Th → Prop} (hB : (1 ≤ d) ∧ ∃ G32 : Nat, (g + G32 ≤ G) ∧ w2_X1_may ω (d - 1) G32 s0 Θ (fun Θ32 => ∀ (L32 : Le Θ Θ32), (kd Θ32 l0 = 15) ∧ ∀ (v37 : Int) (e37 : v37 = gt (vv Θ32 l0) 14) (r37 : -1 ≤ v37), ∃ G41 : Nat, (g + G32 + G41 ≤ G) ∧ w2_X1_take ω (d - 1) G41 l0 Θ32 (fun x41 Θ41 => ∀ (L41 : Le Θ32 Θ41) (r41 : -1 ≤ x41), ∃ G45 : Nat, (g + G32 + G41 + G45 ≤ G) ∧ w2_X1_put ω (d - 1) G45 l0 v37 x41 l1 Θ41 (fun Θ45 => ∀ (L45 : Le Θ41 Θ45), ∀ (v49 : Int) (e49 : v49 = gt (vv Θ45 l0) 15) (r49 : -2147483648 ≤ v49 ∧ v49 < 2147483648), (g + G32 + G41 + G45 ≤ G) ∧ Q v49 Θ45)))) : W2_X1_write_32 ω d G l0 l1 s0 g Θ Q := sorry
def W2_X1_rename_18 (ω : AO) (d G : Nat) (l0 l1 s0 : Int) (g : Nat) (Θ : Th) (Q : Th → Prop) : Prop := Hid (SJ2 ω yX1_rename cX1_rename 5 none d G (fun Sz Θz => (eU Sz (q2U ω Θz Q))) 18 [(2, l0), (2, l1), vN, vN, vN] [(0, s0)] g Θ)
set_option maxHeartbeats 4000000 in
theorem s2_X1_rename {ω : AO} {d G : Nat} {l0 : Int} {Θ : Th} {Q : Th → Prop} (hB : (kd Θ l0 = 15) ∧ ∀ (v2 : Int) (e2 : v2 = gt (vv Θ l0) 14) (r2 : -1 ≤ v2), (1 ≤ d) ∧ ∃ G5 : Nat, (0 + G5 ≤ G) ∧ w2_X1_find ω (d - 1) G5 l0 v2 Θ (fun x5 Θ5 => ∀ (L5 : Le Θ Θ5) (r5 : -1 ≤ x5), (∀ (c10 : x5 < 0), W2_X1_rename_18 ω d G l0 x5 0 (0 + G5) Θ5 Q) ∧ (∀ (c10 : 0 ≤ x5), W2_X1_rename_18 ω d G l0 x5 1 (0 + G5) Θ5 Q))) : w2_X1_rename ω d G l0 Θ Q := sorry
set_option maxHeartbeats 4000000 in
theorem s2_X1_rename_18 {ω : AO} {d G : Nat} {l0 l1 s0 : Int} {g : Nat} {Θ : Th} {Q : Th → Prop} (hB : (1 ≤ d) ∧ ∃ G18 : Nat, (g + G18 ≤ G) ∧ w2_X1_may ω (d - 1) G18 s0 Θ (fun Θ18 => ∀ (L18 : Le Θ Θ18), (kd Θ18 l0 = 15) ∧ ∃ G22 : Nat, (g + G18 + G22 ≤ G) ∧ w2_X1_take ω (d - 1) G22 l0 Θ18 (fun x22 Θ22 => ∀ (L22 : Le Θ18 Θ22) (r22 : -1 ≤ x22), ∃ G27 : Nat, (g + G18 + G22 + G27 ≤ G) ∧ w2_X1_isName ω (d - 1) G27 x22 Θ22 (fun x27 Θ27 => ∀ (L27 : Le Θ22 Θ27) (r27 : x27 = 0 ∨ x27 = 1), ∃ G30 : Nat, (g + G18 + G22 + G27 + G30 ≤ G) ∧ w2_X1_want ω (d - 1) G30 x27 Θ27 (fun Θ30 => ∀ (L30 : Le Θ27 Θ30), (kd Θ30 l1 = 26) ∧ ∀ (v34 : Int) (e34 : v34 = gt (vv Θ30 l1) 2) (r34 : -1 ≤ v34), ∀ (v39 : Int) (e39 : v39 = gt (vv Θ30 l1) 3) (r39 : -2147483648 ≤ v39 ∧ v39 < 2147483648), ∃ G46 : Nat, (g + G18 + G22 + G27 + G30 + G46 ≤ G) ∧ w2_X1_remove ω (d - 1) G46 l0 l1 Θ30 (fun Θ46 => ∀ (L46 : Le Θ30 Θ46), ∃ G54 : Nat, (g + G18 + G22 + G27 + G30 + G46 + G54 ≤ G) ∧ w2_X1_put ω (d - 1) G54 l0 x22 v34 v39 Θ46 (fun Θ54 => ∀ (L54 : Le Θ46 Θ54), (¬ fz Θ54 l0) ∧ (-1 ≤ x22) ∧ ∀ (Θ59 : Th) (t59 : Θ59 = pf Θ54 l0 14 x22), (g + G18 + G22 + G27 + G30 + G46 + G54 ≤ G) ∧ Q Θ59))))))) : W2_X1_rename_18 ω d G l0 l1 s0 g Θ Q := sorry
def W2_X1_delete_12 (ω : AO) (d G : Nat) (l0 s0 : Int) (g : Nat) (Θ : Th) (Q : Int → Th → Prop) : Prop := Hid (SJ2 ω yX1_delete cX1_delete 2 (some .boolean) d G (fun Sz Θz => (eZ Sz (q2 ω Θz Q))) 12 [(2, l0), vN] [(0, s0)] g Θ)
def W2_X1_delete_33 (ω : AO) (d G : Nat) (l1 : Int) (g : Nat) (Θ : Th) (Q : Int → Th → Prop) : Prop := Hid (SJ2 ω yX1_delete cX1_delete 2 (some .boolean) d G (fun Sz Θz => (eZ Sz (q2 ω Θz Q))) 33 [vN, (2, l1)] [] g Θ)
set_option maxHeartbeats 4000000 in
theorem s2_X1_delete {ω : AO} {d G : Nat} {l0 : Int} {Θ : Th} {Q : Int → Th → Prop} (hB : (kd Θ l0 = 15) ∧ ∀ (v1 : Int) (e1 : v1 = gt (vv Θ l0) 14) (r1 : -1 ≤ v1), (∀ (c4 : v1 < 0), W2_X1_delete_12 ω d G l0 0 (0) Θ Q) ∧ (∀ (c4 : 0 ≤ v1), W2_X1_delete_12 ω d G l0 1 (0) Θ Q)) : w2_X1_delete ω d G l0 Θ Q := sorry
set_option maxHeartbeats 4000000 in
theorem s2_X1_delete_12 {ω : AO} {d G : Nat} {l0 s0 : Int} {g : Nat} {Θ : Th} {Q : Int → Th → Prop} (hB : (1 ≤ d) ∧ ∃ G12 : Nat, (g + G12 ≤ G) ∧ w2_X1_may ω (d - 1) G12 s0 Θ (fun Θ12 => ∀ (L12 : Le Θ Θ12), (kd Θ12 l0 = 15) ∧ ∀ (v17 : Int) (e17 : v17 = gt (vv Θ12 l0) 14) (r17 : -1 ≤ v17), ∃ G20 : Nat, (g + G12 + G20 ≤ G) ∧ w2_X1_find ω (d - 1) G20 l0 v17 Θ12 (fun x20 Θ20 => ∀ (L20 : Le Θ12 Θ20) (r20 : -1 ≤ x20), (∀ (c25 : x20 < 0), W2_X1_delete_33 ω d G x20 (g + G12 + G20) Θ20 Q) ∧ (∀ (c25 : 0 ≤ x20), ∃ G30 : Nat, (g + G12 + G20 + G30 ≤ G) ∧ w2_X1_remove ω (d - 1) G30 l0 x20 Θ20 (fun Θ30 => ∀ (L30 : Le Θ20 Θ30), W2_X1_delete_33 ω d G x20 (g + G12 + G20 + G30) Θ30 Q))))) : W2_X1_delete_12 ω d G l0 s0 g Θ Q := sorry
set_option maxHeartbeats 4000000 in
theorem s2_X1_delete_33 {ω : AO} {d G : Nat} {l1 : Int} {g : Nat} {Θ : Th} {Q : Int → Th → Prop} (hB : (∀ (c34 : l1 < 0), (g ≤ G) ∧ Q 0 Θ) ∧ (∀ (c34 : 0 ≤ l1), (g ≤ G) ∧ Q 1 Θ)) : W2_X1_delete_33 ω d G l1 g Θ Q := sorry
def W2_X1_tag_86 (ω : AO) (d G : Nat) (l3 l4 s0 : Int) (g : Nat) (Θ : Th) (Q : Int → Th → Prop) : Prop := Hid (SJ2 ω yX1_tag cX1_tag 5 (some .boolean) d G (fun Sz Θz => (eZ Sz (q2 ω Θz Q))) 86 [vN, vN, vN, (2, l3), (2, l4)] [(0, s0)] g Θ)
set_option maxHeartbeats 4000000 in
theorem s2_X1_tag {ω : AO} {d G : Nat} {l0 l1 l2 : Int} {Θ : Th} {Q : Int → Th → Prop} (hB : (1 ≤ d) ∧ (kd Θ l0 = 15) ∧ ∃ G1 : Nat, (0 + G1 ≤ G) ∧ w2_X1_take ω (d - 1) G1 l0 Θ (fun x1 Θ1 => ∀ (L1 : Le Θ Θ1) (r1 : -1 ≤ x1), ∃ G7 : Nat, (0 + G1 + G7 ≤ G) ∧ w2_X1_at ω (d - 1) G7 l0 l1 Θ1 (fun x7 Θ7 => ∀ (L7 : Le Θ1 Θ7) (r7 : -1 ≤ x7), (∀ (c14 : 0 ≤ x7), ∃ G26 : Nat, (0 + G1 + G7 + G26 ≤ G) ∧ w2_X1_canBePut ω (d - 1) G26 x1 Θ7 (fun x26 Θ26 => ∀ (L26 : Le Θ7 Θ26) (r26 : x26 = 0 ∨ x26 = 1), ∃ G29 : Nat, (0 + G1 + G7 + G26 + G29 ≤ G) ∧ w2_X1_want ω (d - 1) G29 x26 Θ26 (fun Θ29 => ∀ (L29 : Le Θ26 Θ29), (-2147483648 ≤ l2 ∧ l2 < 2147483648) ∧ (∀ (c33 : ¬ l2 = 0), (kd Θ29 x7 = 29) ∧ ∀ (v56 : Int) (e56 : v56 = gt (vv Θ29 x7) 5) (r56 : -1 ≤ v56), (kd Θ29 v56 = 30) ∧ ∃ G60 : Nat, (0 + G1 + G7 + G26 + G29 + G60 ≤ G) ∧ w2_X17_containsKey ω (d - 1) G60 v56 x1 Θ29 (fun x60 Θ60 => ∀ (L60 : Le Θ29 Θ60) (r60 : x60 = 0 ∨ x60 = 1), (∀ (c63 : x60 = 0), ∀ (v70 : Int) (e70 : v70 = gt (vv Θ60 x7) 5) (r70 : -1 ≤ v70), (kd Θ60 v70 = 30) ∧ ∃ G73 : Nat, (0 + G1 + G7 + G26 + G29 + G60 + G73 ≤ G) ∧ w2_X17_size ω (d - 1) G73 v70 Θ60 (fun x73 Θ73 => ∀ (L73 : Le Θ60 Θ73) (r73 : -2147483648 ≤ x73 ∧ x73 < 2147483648), (∀ (c78 : 8 ≤ x73), W2_X1_tag_86 ω d G x1 x7 0 (0 + G1 + G7 + G26 + G29 + G60 + G73) Θ73 Q) ∧ (∀ (c78 : x73 < 8), W2_X1_tag_86 ω d G x1 x7 1 (0 + G1 + G7 + G26 + G29 + G60 + G73) Θ73 Q))) ∧ (∀ (c63 : ¬ x60 = 0), (0 + G1 + G7 + G26 + G29 + G60 ≤ G) ∧ Q 0 Θ60))) ∧ (∀ (c33 : l2 = 0), (kd Θ29 x7 = 29) ∧ ∀ (v38 : Int) (e38 : v38 = gt (vv Θ29 x7) 5) (r38 : -1 ≤ v38), (kd Θ29 v38 = 30) ∧ ∃ G42 : Nat, (0 + G1 + G7 + G26 + G29 + G42 ≤ G) ∧ w2_X17_remove ω (d - 1) G42 v38 x1 Θ29 (fun x42 Θ42 => ∀ (L42 : Le Θ29 Θ42) (r42 : -1 ≤ x42), (∀ (c45 : x42 < 0), (0 + G1 + G7 + G26 + G29 + G42 ≤ G) ∧ Q 0 Θ42) ∧ (∀ (c45 : 0 ≤ x42), (0 + G1 + G7 + G26 + G29 + G42 ≤ G) ∧ Q 1 Θ42)))))) ∧ (∀ (c14 : x7 < 0), False)))) : w2_X1_tag ω d G l0 l1 l2 Θ Q := sorry
set_option maxHeartbeats 4000000 in
theorem s2_X1_tag_86 {ω : AO} {d G : Nat} {l3 l4 s0 : Int} {g : Nat} {Θ : Th} {Q : Int → Th → Prop} (hB : (1 ≤ d) ∧ ∃ G86 : Nat, (g + G86 ≤ G) ∧ w2_X1_may ω (d - 1) G86 s0 Θ (fun Θ86 => ∀ (L86 : Le Θ Θ86), (kd Θ86 l4 = 29) ∧ ∀ (v91 : Int) (e91 : v91 = gt (vv Θ86 l4) 5) (r91 : -1 ≤ v91), (kd Θ86 v91 = 30) ∧ ∃ G96 : Nat, (g + G86 + G96 ≤ G) ∧ w2_X17_put ω (d - 1) G96 v91 l3 l3 Θ86 (fun x96 Θ96 => ∀ (L96 : Le Θ86 Θ96) (r96 : -1 ≤ x96), (g + G86 + G96 ≤ G) ∧ Q 1 Θ96))) : W2_X1_tag_86 ω d G l3 l4 s0 g Θ Q := sorry
def W2_X1_dump_4 (ω : AO) (d G : Nat) (l0 l1 l2 : Int) (g : Nat) (Θ : Th) (Q : Int → Th → Prop) : Prop := Hid (SJ2 ω yX1_dump cX1_dump 4 (some .int) d G (fun Sz Θz => (eI Sz (q2 ω Θz Q))) 4 [(2, l0), (0, l1), (0, l2), vN] [] g Θ)
def W2_X1_dump_94 (ω : AO) (d G : Nat) (l0 s0 : Int) (g : Nat) (Θ : Th) (Q : Int → Th → Prop) : Prop := Hid (SJ2 ω yX1_dump cX1_dump 4 (some .int) d G (fun Sz Θz => (eI Sz (q2 ω Θz Q))) 94 [(2, l0), vN, vN, vN] [(0, s0)] g Θ)
def W2_X1_dump_56 (ω : AO) (d G : Nat) (l0 l2 s0 : Int) (g : Nat) (Θ : Th) (Q : Int → Th → Prop) : Prop := Hid (SJ2 ω yX1_dump cX1_dump 4 (some .int) d G (fun Sz Θz => (eI Sz (q2 ω Θz Q))) 56 [(2, l0), vN, (0, l2), vN] [(0, s0)] g Θ)
def W2_X1_dump_74 (ω : AO) (d G : Nat) (l0 l2 s0 s1 : Int) (g : Nat) (Θ : Th) (Q : Int → Th → Prop) : Prop := Hid (SJ2 ω yX1_dump cX1_dump 4 (some .int) d G (fun Sz Θz => (eI Sz (q2 ω Θz Q))) 74 [(2, l0), vN, (0, l2), vN] [(0, s0), (0, s1)] g Θ)
def W2_X1_dump_111 (ω : AO) (d G : Nat) (l0 l2 : Int) (g : Nat) (Θ : Th) (Q : Int → Th → Prop) : Prop := Hid (SJ2 ω yX1_dump cX1_dump 4 (some .int) d G (fun Sz Θz => (eI Sz (q2 ω Θz Q))) 111 [(2, l0), vN, (2, l2), vN] [] g Θ)
def W2_X1_dump_129 (ω : AO) (d G : Nat) (l0 l2 l3 : Int) (g : Nat) (Θ : Th) (Q : Int → Th → Prop) : Prop := Hid (SJ2 ω yX1_dump cX1_dump 4 (some .int) d G (fun Sz Θz => (eI Sz (q2 ω Θz Q))) 129 [(2, l0), vN, (2, l2), (0, l3)] [] g Θ)
set_option maxHeartbeats 4000000 in
theorem s2_X1_dump {ω : AO} {d G : Nat} {l0 : Int} {Θ : Th} {Q : Int → Th → Prop} (hB : W2_X1_dump_4 ω d G l0 0 0 (0) Θ Q) : w2_X1_dump ω d G l0 Θ Q := sorry
set_option maxHeartbeats 4000000 in
theorem s2_X1_dump_4 {ω : AO} {d G : Nat} {l0 l1 l2 : Int} {g : Nat} {Θ : Th} {Q : Int → Th → Prop} (hB : (kd Θ l0 = 15) ∧ ∀ (v6 : Int) (e6 : v6 = gt (vv Θ l0) 6) (r6 : -1 ≤ v6), (1 ≤ d) ∧ (kd Θ v6 = 3) ∧ (g ≤ G) ∧ ∀ (x9 : Int) (e9 : x9 = len (vv Θ v6)) (r9 : -2147483648 ≤ x9 ∧ x9 < 2147483648), (-2147483648 ≤ l2 ∧ l2 < 2147483648) ∧ (∀ (c12 : x9 ≤ l2), (-2147483648 ≤ l1 ∧ l1 < 2147483648) ∧ (∀ (c86 : 2000 < l1), W2_X1_dump_94 ω d G l0 0 (g) Θ Q) ∧ (∀ (c86 : l1 ≤ 2000), W2_X1_dump_94 ω d G l0 1 (g) Θ Q)) ∧ (∀ (c12 : l2 < x9), ∀ (v17 : Int) (e17 : v17 = gt (vv Θ l0) 6) (r17 : -1 ≤ v17), (kd Θ v17 = 3) ∧ (0 ≤ l2 ∧ l2 < len (vv Θ v17)) ∧ (3 ≤ d) ∧ ∀ (x21 : Int) (e21 : x21 = gt (vv Θ v17) l2) (r21 : -1 ≤ x21), (x21 < 0 ∨ kd Θ x21 ∈ [29]) ∧ (kd Θ x21 = 29) ∧ ∀ (v27 : Int) (e27 : v27 = gt (vv Θ x21) 1) (r27 : -1 ≤ v27), (kd Θ v27 = 2) ∧ ∀ (x30 : Int) (e30 : x30 = if vv Θ v27 = [] then 1 else 0) (r30 : x30 = 0 ∨ x30 = 1), (∀ (c33 : ¬ x30 = 0), W2_X1_dump_56 ω d G l0 l2 l1 (g) Θ Q) ∧ (∀ (c33 : x30 = 0), ∀ (v37 : Int) (e37 : v37 = gt (vv Θ l0) 6) (r37 : -1 ≤ v37), (kd Θ v37 = 3) ∧ (0 ≤ l2 ∧ l2 < len (vv Θ v37)) ∧ ∀ (x41 : Int) (e41 : x41 = gt (vv Θ v37) l2) (r41 : -1 ≤ x41), (x41 < 0 ∨ kd Θ x41 ∈ [29]) ∧ (kd Θ x41 = 29) ∧ ∀ (v47 : Int) (e47 : v47 = gt (vv Θ x41) 5) (r47 : -1 ≤ v47), (kd Θ v47 = 30) ∧ ∃ G50 : Nat, (g + G50 ≤ G) ∧ w2_X17_isEmpty ω (d - 1) G50 v47 Θ (fun x50 Θ50 => ∀ (L50 : Le Θ Θ50) (r50 : x50 = 0 ∨ x50 = 1), (∀ (c53 : x50 = 0), ∀ (v61 : Int) (e61 : v61 = gt (vv Θ50 l0) 6) (r61 : -1 ≤ v61), (kd Θ50 v61 = 3) ∧ (0 ≤ l2 ∧ l2 < len (vv Θ50 v61)) ∧ (g + G50 ≤ G) ∧ ∀ (x65 : Int) (e65 : x65 = gt (vv Θ50 v61) l2) (r65 : -1 ≤ x65), (x65 < 0 ∨ kd Θ50 x65 ∈ [29]) ∧ ∃ G71 : Nat, (g + G50 + G71 ≤ G) ∧ w2_X1_lineLength ω (d - 1) G71 x65 Θ50 (fun x71 Θ71 => ∀ (L71 : Le Θ50 Θ71) (r71 : -2147483648 ≤ x71 ∧ x71 < 2147483648), W2_X1_dump_74 ω d G l0 l2 x71 l1 (g + G50 + G71) Θ71 Q)) ∧ (∀ (c53 : ¬ x50 = 0), W2_X1_dump_56 ω d G l0 l2 l1 (g + G50) Θ50 Q))))) : W2_X1_dump_4 ω d G l0 l1 l2 g Θ Q := sorry
set_option maxHeartbeats 4000000 in
theorem s2_X1_dump_94 {ω : AO} {d G : Nat} {l0 s0 : Int} {g : Nat} {Θ : Th} {Q : Int → Th → Prop} (hB : (1 ≤ d) ∧ ∃ G94 : Nat, (g + G94 ≤ G) ∧ w2_X1_may ω (d - 1) G94 s0 Θ (fun Θ94 => ∀ (L94 : Le Θ Θ94), (kd Θ94 l0 = 15) ∧ ∀ (v98 : Int) (e98 : v98 = gt (vv Θ94 l0) 3) (r98 : -1 ≤ v98), (kd Θ94 v98 = 1) ∧ (¬ fz Θ94 v98) ∧ (0 ≤ (0 : Int) ∧ (0 : Int) ≤ len (vv Θ94 v98)) ∧ (6 ≤ d) ∧ (g + G94 ≤ G) ∧ ∀ (Θ102 : Th) (t102 : Θ102 = uq Θ94 v98 (1, (vv Θ94 v98).take ((0 : Int)).toNat, cp Θ94 v98, cx Θ94 v98)), ∃ G107 : Nat, (g + G94 + G107 ≤ G) ∧ w2_X1_nextLine ω (d - 1) G107 l0 (-1) Θ102 (fun x107 Θ107 => ∀ (L107 : Le Θ102 Θ107) (r107 : -1 ≤ x107), W2_X1_dump_111 ω d G l0 x107 (g + G94 + G107) Θ107 Q))) : W2_X1_dump_94 ω d G l0 s0 g Θ Q := sorry
set_option maxHeartbeats 4000000 in
theorem s2_X1_dump_56 {ω : AO} {d G : Nat} {l0 l2 s0 : Int} {g : Nat} {Θ : Th} {Q : Int → Th → Prop} (hB : W2_X1_dump_74 ω d G l0 l2 0 s0 (g) Θ Q) : W2_X1_dump_56 ω d G l0 l2 s0 g Θ Q := sorry
set_option maxHeartbeats 4000000 in
theorem s2_X1_dump_74 {ω : AO} {d G : Nat} {l0 l2 s0 s1 : Int} {g : Nat} {Θ : Th} {Q : Int → Th → Prop} (hB : W2_X1_dump_4 ω d G l0 ((s1 + s0)) ((l2 + 1)) (g) Θ Q) : W2_X1_dump_74 ω d G l0 l2 s0 s1 g Θ Q := sorry
set_option maxHeartbeats 4000000 in
theorem s2_X1_dump_111 {ω : AO} {d G : Nat} {l0 l2 : Int} {g : Nat} {Θ : Th} {Q : Int → Th → Prop} (hB : (∀ (c112 : l2 < 0), (kd Θ l0 = 15) ∧ ∀ (v187 : Int) (e187 : v187 = gt (vv Θ l0) 3) (r187 : -1 ≤ v187), (1 ≤ d) ∧ (kd Θ v187 = 1) ∧ (2 ≤ d) ∧ (g ≤ G) ∧ ∀ (x190 : Int) (e190 : x190 = len (vv Θ v187)) (r190 : -2147483648 ≤ x190 ∧ x190 < 2147483648), Q x190 Θ) ∧ (∀ (c112 : 0 ≤ l2), (kd Θ l0 = 15) ∧ ∀ (v116 : Int) (e116 : v116 = gt (vv Θ l0) 3) (r116 : -1 ≤ v116), (kd Θ l2 = 29) ∧ ∀ (v120 : Int) (e120 : v120 = gt (vv Θ l2) 1) (r120 : -1 ≤ v120), (1 ≤ d) ∧ (kd Θ v116 = 1) ∧ (kd Θ v120 = 2) ∧ (¬ fz Θ v116) ∧ (bC (cp Θ v116) (len (vv Θ v116) + len (vv Θ v120)) ≤ 20000000) ∧ (11 ≤ d) ∧ (g + (bK (bC (cp Θ v116) (len (vv Θ v116) + len (vv Θ v120))) (max (cx Θ v116) (wide (vv Θ v120))) - bK (cp Θ v116) (cx Θ v116)).toNat ≤ G) ∧ ∀ (Θ123 : Th) (t123 : Θ123 = uq Θ v116 (1, vv Θ v116 ++ vv Θ v120, bC (cp Θ v116) (len (vv Θ v116) + len (vv Θ v120)), max (cx Θ v116) (wide (vv Θ v120)))), W2_X1_dump_129 ω d G l0 l2 0 (g + (bK (bC (cp Θ v116) (len (vv Θ v116) + len (vv Θ v120))) (max (cx Θ v116) (wide (vv Θ v120))) - bK (cp Θ v116) (cx Θ v116)).toNat) Θ123 Q)) : W2_X1_dump_111 ω d G l0 l2 g Θ Q := sorry
set_option maxHeartbeats 4000000 in
theorem s2_X1_dump_129 {ω : AO} {d G : Nat} {l0 l2 l3 : Int} {g : Nat} {Θ : Th} {Q : Int → Th → Prop} (hB : (kd Θ l2 = 29) ∧ ∀ (v131 : Int) (e131 : v131 = gt (vv Θ l2) 5) (r131 : -1 ≤ v131), (1 ≤ d) ∧ (kd Θ v131 = 30) ∧ ∃ G134 : Nat, (g + G134 ≤ G) ∧ w2_X17_size ω (d - 1) G134 v131 Θ (fun x134 Θ134 => ∀ (L134 : Le Θ Θ134) (r134 : -2147483648 ≤ x134 ∧ x134 < 2147483648), (-2147483648 ≤ l3 ∧ l3 < 2147483648) ∧ (∀ (c137 : x134 ≤ l3), (kd Θ134 l0 = 15) ∧ ∀ (v168 : Int) (e168 : v168 = gt (vv Θ134 l0) 3) (r168 : -1 ≤ v168), (kd Θ134 v168 = 1) ∧ (¬ fz Θ134 v168) ∧ (bC (cp Θ134 v168) (len (vv Θ134 v168) + 1) ≤ 20000000) ∧ (9 ≤ d) ∧ (g + G134 + (bK (bC (cp Θ134 v168) (len (vv Θ134 v168) + 1)) (if (10 : Int) ≤ 255 then cx Θ134 v168 else 1) - bK (cp Θ134 v168) (cx Θ134 v168)).toNat ≤ G) ∧ ∀ (Θ173 : Th) (t173 : Θ173 = uq Θ134 v168 (1, vv Θ134 v168 ++ [(10 : Int)], bC (cp Θ134 v168) (len (vv Θ134 v168) + 1), if (10 : Int) ≤ 255 then cx Θ134 v168 else 1)), ∃ G179 : Nat, (g + G134 + (bK (bC (cp Θ134 v168) (len (vv Θ134 v168) + 1)) (if (10 : Int) ≤ 255 then cx Θ134 v168 else 1) - bK (cp Θ134 v168) (cx Θ134 v168)).toNat + G179 ≤ G) ∧ w2_X1_nextLine ω (d - 1) G179 l0 l2 Θ173 (fun x179 Θ179 => ∀ (L179 : Le Θ173 Θ179) (r179 : -1 ≤ x179), W2_X1_dump_111 ω d G l0 x179 (g + G134 + (bK (bC (cp Θ134 v168) (len (vv Θ134 v168) + 1)) (if (10 : Int) ≤ 255 then cx Θ134 v168 else 1) - bK (cp Θ134 v168) (cx Θ134 v168)).toNat + G179) Θ179 Q)) ∧ (∀ (c137 : l3 < x134), (kd Θ134 l0 = 15) ∧ ∀ (v141 : Int) (e141 : v141 = gt (vv Θ134 l0) 3) (r141 : -1 ≤ v141), (kd Θ134 v141 = 1) ∧ (¬ fz Θ134 v141) ∧ (bC (cp Θ134 v141) (len (vv Θ134 v141) + 1) ≤ 20000000) ∧ (9 ≤ d) ∧ (g + G134 + (bK (bC (cp Θ134 v141) (len (vv Θ134 v141) + 1)) (if (32 : Int) ≤ 255 then cx Θ134 v141 else 1) - bK (cp Θ134 v141) (cx Θ134 v141)).toNat ≤ G) ∧ ∀ (Θ146 : Th) (t146 : Θ146 = uq Θ134 v141 (1, vv Θ134 v141 ++ [(32 : Int)], bC (cp Θ134 v141) (len (vv Θ134 v141) + 1), if (32 : Int) ≤ 255 then cx Θ134 v141 else 1)), ∀ (v150 : Int) (e150 : v150 = gt (vv Θ146 l2) 5) (r150 : -1 ≤ v150), (kd Θ146 v150 = 30) ∧ ∃ G154 : Nat, (g + G134 + (bK (bC (cp Θ134 v141) (len (vv Θ134 v141) + 1)) (if (32 : Int) ≤ 255 then cx Θ134 v141 else 1) - bK (cp Θ134 v141) (cx Θ134 v141)).toNat + G154 ≤ G) ∧ w2_X17_keyAt ω (d - 1) G154 v150 l3 Θ146 (fun x154 Θ154 => ∀ (L154 : Le Θ146 Θ154) (r154 : -1 ≤ x154), (kd Θ154 x154 = 2) ∧ (¬ fz Θ154 v141) ∧ (bC (cp Θ154 v141) (len (vv Θ154 v141) + len (vv Θ154 x154)) ≤ 20000000) ∧ (11 ≤ d) ∧ (g + G134 + (bK (bC (cp Θ134 v141) (len (vv Θ134 v141) + 1)) (if (32 : Int) ≤ 255 then cx Θ134 v141 else 1) - bK (cp Θ134 v141) (cx Θ134 v141)).toNat + G154 + (bK (bC (cp Θ154 v141) (len (vv Θ154 v141) + len (vv Θ154 x154))) (max (cx Θ154 v141) (wide (vv Θ154 x154))) - bK (cp Θ154 v141) (cx Θ154 v141)).toNat ≤ G) ∧ ∀ (Θ157 : Th) (t157 : Θ157 = uq Θ154 v141 (1, vv Θ154 v141 ++ vv Θ154 x154, bC (cp Θ154 v141) (len (vv Θ154 v141) + len (vv Θ154 x154)), max (cx Θ154 v141) (wide (vv Θ154 x154)))), W2_X1_dump_129 ω d G l0 l2 ((l3 + 1)) (g + G134 + (bK (bC (cp Θ134 v141) (len (vv Θ134 v141) + 1)) (if (32 : Int) ≤ 255 then cx Θ134 v141 else 1) - bK (cp Θ134 v141) (cx Θ134 v141)).toNat + G154 + (bK (bC (cp Θ154 v141) (len (vv Θ154 v141) + len (vv Θ154 x154))) (max (cx Θ154 v141) (wide (vv Θ154 x154))) - bK (cp Θ154 v141) (cx Θ154 v141)).toNat) Θ157 Q)))) : W2_X1_dump_129 ω d G l0 l2 l3 g Θ Q := sorry
def W2_X1_restore_15 (ω : AO) (d G : Nat) (l0 l1 l2 l3 : Int) (g : Nat) (Θ : Th) (Q : Int → Th → Prop) : Prop := Hid (SJ2 ω yX1_restore cX1_restore 11 (some .int) d G (fun Sz Θz => (eI Sz (q2 ω Θz Q))) 15 [(2, l0), (2, l1), (2, l2), (0, l3), vN, vN, vN, vN, vN, vN, vN] [] g Θ)
def W2_X1_restore_88 (ω : AO) (d G : Nat) (l0 l2 l4 l5 : Int) (g : Nat) (Θ : Th) (Q : Int → Th → Prop) : Prop := Hid (SJ2 ω yX1_restore cX1_restore 11 (some .int) d G (fun Sz Θz => (eI Sz (q2 ω Θz Q))) 88 [(2, l0), vN, (2, l2), vN, (0, l4), (0, l5), vN, vN, vN, vN, vN] [] g Θ)
def W2_X1_restore_43 (ω : AO) (d G : Nat) (l0 l1 l2 l3 l4 : Int) (g : Nat) (Θ : Th) (Q : Int → Th → Prop) : Prop := Hid (SJ2 ω yX1_restore cX1_restore 11 (some .int) d G (fun Sz Θz => (eI Sz (q2 ω Θz Q))) 43 [(2, l0), (2, l1), (2, l2), (0, l3), (0, l4), vN, vN, vN, vN, vN, vN] [] g Θ)
def W2_X1_restore_114 (ω : AO) (d G : Nat) (l0 l2 l4 l5 l6 l7 l8 : Int) (g : Nat) (Θ : Th) (Q : Int → Th → Prop) : Prop := Hid (SJ2 ω yX1_restore cX1_restore 11 (some .int) d G (fun Sz Θz => (eI Sz (q2 ω Θz Q))) 114 [(2, l0), vN, (2, l2), vN, (0, l4), (0, l5), (2, l6), (0, l7), (0, l8), vN, vN] [] g Θ)
def W2_X1_restore_239 (ω : AO) (d G : Nat) (l0 l2 l5 s0 s1 : Int) (g : Nat) (Θ : Th) (Q : Int → Th → Prop) : Prop := Hid (SJ2 ω yX1_restore cX1_restore 11 (some .int) d G (fun Sz Θz => (eI Sz (q2 ω Θz Q))) 239 [(2, l0), vN, (2, l2), vN, vN, (0, l5), vN, vN, vN, vN, vN] [(0, s0), (0, s1)] g Θ)
def W2_X1_restore_173 (ω : AO) (d G : Nat) (l0 l2 l4 l5 l6 l7 l8 l9 l10 : Int) (g : Nat) (Θ : Th) (Q : Int → Th → Prop) : Prop := Hid (SJ2 ω yX1_restore cX1_restore 11 (some .int) d G (fun Sz Θz => (eI Sz (q2 ω Θz Q))) 173 [(2, l0), vN, (2, l2), vN, (0, l4), (0, l5), (2, l6), (0, l7), (0, l8), (2, l9), (0, l10)] [] g Θ)
set_option maxHeartbeats 4000000 in
theorem s2_X1_restore {ω : AO} {d G : Nat} {l0 : Int} {Θ : Th} {Q : Int → Th → Prop} (hB : (1 ≤ d) ∧ (kd Θ l0 = 15) ∧ ∃ G1 : Nat, (0 + G1 ≤ G) ∧ w2_X1_take ω (d - 1) G1 l0 Θ (fun x1 Θ1 => ∀ (L1 : Le Θ Θ1) (r1 : -1 ≤ x1), (0 + G1 + 1 ≤ G) ∧ ∀ (v5 : Int) (Θ5 : Th) (u5 : nt Θ1 ≤ v5 ∧ 0 ≤ v5) (b5 : Bl Θ1) (t5 : Θ5 = nu Θ1 v5 (203, [], 0, 0)), (4 ≤ d) ∧ ∀ (k9 : Int) (Θ9 : Th) (t9 : Θ9 = uq Θ5 v5 (3, [], 0, k9)), W2_X1_restore_15 ω d G l0 x1 v5 0 (0 + G1 + 1) Θ9 Q)) : w2_X1_restore ω d G l0 Θ Q := sorry
set_option maxHeartbeats 4000000 in
theorem s2_X1_restore_15 {ω : AO} {d G : Nat} {l0 l1 l2 l3 : Int} {g : Nat} {Θ : Th} {Q : Int → Th → Prop} (hB : (1 ≤ d) ∧ (kd Θ l1 = 2) ∧ (2 ≤ d) ∧ (g ≤ G) ∧ ∀ (x17 : Int) (e17 : x17 = len (vv Θ l1)) (r17 : -2147483648 ≤ x17 ∧ x17 < 2147483648), (-2147483648 ≤ l3 ∧ l3 < 2147483648) ∧ (∀ (c20 : x17 ≤ l3), W2_X1_restore_88 ω d G l0 l2 0 0 (g) Θ Q) ∧ (∀ (c20 : l3 < x17), (6 ≤ d) ∧ ∀ (x27 : Int) (e27 : x27 = idx (vv Θ l1) (10 : Int) l3) (r27 : -2147483648 ≤ x27 ∧ x27 < 2147483648), (∀ (c34 : 0 ≤ x27), W2_X1_restore_43 ω d G l0 l1 l2 l3 x27 (g) Θ Q) ∧ (∀ (c34 : x27 < 0), ∀ (x38 : Int) (e38 : x38 = len (vv Θ l1)) (r38 : -2147483648 ≤ x38 ∧ x38 < 2147483648), W2_X1_restore_43 ω d G l0 l1 l2 l3 x38 (g) Θ Q))) : W2_X1_restore_15 ω d G l0 l1 l2 l3 g Θ Q := sorry
set_option maxHeartbeats 4000000 in
theorem s2_X1_restore_88 {ω : AO} {d G : Nat} {l0 l2 l4 l5 : Int} {g : Nat} {Θ : Th} {Q : Int → Th → Prop} (hB : (1 ≤ d) ∧ (kd Θ l2 = 3) ∧ (g ≤ G) ∧ ∀ (x91 : Int) (e91 : x91 = len (vv Θ l2)) (r91 : -2147483648 ≤ x91 ∧ x91 < 2147483648), (-2147483648 ≤ l5 ∧ l5 < 2147483648) ∧ (∀ (c94 : x91 ≤ l5), (-2147483648 ≤ l4 ∧ l4 < 2147483648) ∧ Q l4 Θ) ∧ (∀ (c94 : l5 < x91), (0 ≤ l5 ∧ l5 < len (vv Θ l2)) ∧ (3 ≤ d) ∧ ∀ (x100 : Int) (e100 : x100 = gt (vv Θ l2) l5) (r100 : -1 ≤ x100), (x100 < 0 ∨ kd Θ x100 ∈ [57]) ∧ W2_X1_restore_114 ω d G l0 l2 l4 l5 x100 0 0 (g) Θ Q)) : W2_X1_restore_88 ω d G l0 l2 l4 l5 g Θ Q := sorry
set_option maxHeartbeats 4000000 in
theorem s2_X1_restore_43 {ω : AO} {d G : Nat} {l0 l1 l2 l3 l4 : Int} {g : Nat} {Θ : Th} {Q : Int → Th → Prop} (hB : (g + 1 ≤ G) ∧ ∀ (v43 : Int) (Θ43 : Th) (u43 : nt Θ ≤ v43 ∧ 0 ≤ v43) (b43 : Bl Θ) (t43 : Θ43 = nu Θ v43 (57, [-1, -1, 0], 0, 0)), (1 ≤ d) ∧ (kd Θ43 l1 = 2) ∧ (0 ≤ l3 ∧ l3 ≤ l4 ∧ l4 ≤ len (vv Θ43 l1)) ∧ (l3 < l4 ∨ wide (vv Θ43 l1) = 0 ∨ vv Θ43 l1 = []) ∧ (7 ≤ d) ∧ (g + 1 + (l4 - l3 + 5).toNat ≤ G) ∧ ∀ (x51 : Int) (Θ51 : Th) (e51 : NewS Θ43 Θ51 x51 (sub (vv Θ43 l1) l3 l4)), ∃ G54 : Nat, (g + 1 + (l4 - l3 + 5).toNat + G54 ≤ G) ∧ w2_X52_init ω (d - 1) G54 v43 x51 Θ51 (fun Θ54 => ∀ (L54 : Le Θ51 Θ54), ∀ (v61 : Int) (e61 : v61 = gt (vv Θ54 v43) 2) (r61 : 0 ≤ v61 ∧ v61 < 2), ∃ G64 : Nat, (g + 1 + (l4 - l3 + 5).toNat + G54 + G64 ≤ G) ∧ w2_X1_want ω (d - 1) G64 v61 Θ54 (fun Θ64 => ∀ (L64 : Le Θ54 Θ64), (kd Θ64 l2 = 3) ∧ (¬ fz Θ64 l2) ∧ (rf Θ64 v43) ∧ (adC (cp Θ64 l2) (len (vv Θ64 l2)) ≤ 60000000) ∧ (g + 1 + (l4 - l3 + 5).toNat + G54 + G64 + (adC (cp Θ64 l2) (len (vv Θ64 l2)) - cp Θ64 l2).toNat ≤ G) ∧ ∀ (k70 : Int) (Θ70 : Th) (t70 : Θ70 = uq Θ64 l2 (3, vv Θ64 l2 ++ [v43], adC (cp Θ64 l2) (len (vv Θ64 l2)), k70)), W2_X1_restore_15 ω d G l0 l1 l2 ((l4 + 1)) (g + 1 + (l4 - l3 + 5).toNat + G54 + G64 + (adC (cp Θ64 l2) (len (vv Θ64 l2)) - cp Θ64 l2).toNat) Θ70 Q))) : W2_X1_restore_43 ω d G l0 l1 l2 l3 l4 g Θ Q := sorry
set_option maxHeartbeats 4000000 in
theorem s2_X1_restore_114 {ω : AO} {d G : Nat} {l0 l2 l4 l5 l6 l7 l8 : Int} {g : Nat} {Θ : Th} {Q : Int → Th → Prop} (hB : (kd Θ l0 = 15) ∧ ∀ (v117 : Int) (e117 : v117 = gt (vv Θ l0) 6) (r117 : -1 ≤ v117), (1 ≤ d) ∧ (kd Θ v117 = 3) ∧ (g ≤ G) ∧ ∀ (x120 : Int) (e120 : x120 = len (vv Θ v117)) (r120 : -2147483648 ≤ x120 ∧ x120 < 2147483648), (-2147483648 ≤ l8 ∧ l8 < 2147483648) ∧ (∀ (c123 : x120 ≤ l8), (-2147483648 ≤ l7 ∧ l7 < 2147483648) ∧ (∀ (c231 : l7 = 0), W2_X1_restore_239 ω d G l0 l2 l5 0 l4 (g) Θ Q) ∧ (∀ (c231 : ¬ l7 = 0), W2_X1_restore_239 ω d G l0 l2 l5 1 l4 (g) Θ Q)) ∧ (∀ (c123 : l8 < x120), ∀ (v127 : Int) (e127 : v127 = gt (vv Θ l0) 6) (r127 : -1 ≤ v127), (kd Θ v127 = 3) ∧ (0 ≤ l8 ∧ l8 < len (vv Θ v127)) ∧ (3 ≤ d) ∧ ∀ (x132 : Int) (e132 : x132 = gt (vv Θ v127) l8) (r132 : -1 ≤ x132), (x132 < 0 ∨ kd Θ x132 ∈ [29]) ∧ (kd Θ x132 = 29) ∧ ∀ (v142 : Int) (e142 : v142 = gt (vv Θ x132) 1) (r142 : -1 ≤ v142), (kd Θ l6 = 57) ∧ ∀ (v147 : Int) (e147 : v147 = gt (vv Θ l6) 0) (r147 : -1 ≤ v147), (kd Θ v142 = 2) ∧ (kd Θ v147 = 2) ∧ (2 ≤ d) ∧ ∀ (x150 : Int) (e150 : x150 = if vv Θ v142 = vv Θ v147 then 1 else 0) (r150 : x150 = 0 ∨ x150 = 1), (∀ (c153 : ¬ x150 = 0), ∀ (v164 : Int) (e164 : v164 = gt (vv Θ x132) 5) (r164 : -1 ≤ v164), (kd Θ v164 = 30) ∧ ∃ G167 : Nat, (g + G167 ≤ G) ∧ w2_X17_clear ω (d - 1) G167 v164 Θ (fun Θ167 => ∀ (L167 : Le Θ Θ167), W2_X1_restore_173 ω d G l0 l2 l4 l5 l6 1 l8 x132 0 (g + G167) Θ167 Q)) ∧ (∀ (c153 : x150 = 0), W2_X1_restore_114 ω d G l0 l2 l4 l5 l6 l7 ((l8 + 1)) (g) Θ Q))) : W2_X1_restore_114 ω d G l0 l2 l4 l5 l6 l7 l8 g Θ Q := sorry
set_option maxHeartbeats 4000000 in
theorem s2_X1_restore_239 {ω : AO} {d G : Nat} {l0 l2 l5 s0 s1 : Int} {g : Nat} {Θ : Th} {Q : Int → Th → Prop} (hB : W2_X1_restore_88 ω d G l0 l2 ((s1 + s0)) ((l5 + 1)) (g) Θ Q) : W2_X1_restore_239 ω d G l0 l2 l5 s0 s1 g Θ Q := sorry
set_option maxHeartbeats 4000000 in
theorem s2_X1_restore_173 {ω : AO} {d G : Nat} {l0 l2 l4 l5 l6 l7 l8 l9 l10 : Int} {g : Nat} {Θ : Th} {Q : Int → Th → Prop} (hB : (kd Θ l6 = 57) ∧ ∀ (v177 : Int) (e177 : v177 = gt (vv Θ l6) 1) (r177 : -1 ≤ v177), (1 ≤ d) ∧ (kd Θ v177 = 30) ∧ ∃ G180 : Nat, (g + G180 ≤ G) ∧ w2_X17_size ω (d - 1) G180 v177 Θ (fun x180 Θ180 => ∀ (L180 : Le Θ Θ180) (r180 : -2147483648 ≤ x180 ∧ x180 < 2147483648), (-2147483648 ≤ l10 ∧ l10 < 2147483648) ∧ (∀ (c183 : x180 ≤ l10), W2_X1_restore_114 ω d G l0 l2 l4 l5 l6 l7 ((l8 + 1)) (g + G180) Θ180 Q) ∧ (∀ (c183 : l10 < x180), (kd Θ180 l9 = 29) ∧ ∀ (v188 : Int) (e188 : v188 = gt (vv Θ180 l9) 5) (r188 : -1 ≤ v188), ∀ (v193 : Int) (e193 : v193 = gt (vv Θ180 l6) 1) (r193 : -1 ≤ v193), (kd Θ180 v193 = 30) ∧ ∃ G198 : Nat, (g + G180 + G198 ≤ G) ∧ w2_X17_keyAt ω (d - 1) G198 v193 l10 Θ180 (fun x198 Θ198 => ∀ (L198 : Le Θ180 Θ198) (r198 : -1 ≤ x198), ∀ (v203 : Int) (e203 : v203 = gt (vv Θ198 l6) 1) (r203 : -1 ≤ v203), (kd Θ198 v203 = 30) ∧ ∃ G208 : Nat, (g + G180 + G198 + G208 ≤ G) ∧ w2_X17_keyAt ω (d - 1) G208 v203 l10 Θ198 (fun x208 Θ208 => ∀ (L208 : Le Θ198 Θ208) (r208 : -1 ≤ x208), (kd Θ208 v188 = 30) ∧ ∃ G211 : Nat, (g + G180 + G198 + G208 + G211 ≤ G) ∧ w2_X17_put ω (d - 1) G211 v188 x198 x208 Θ208 (fun x211 Θ211 => ∀ (L211 : Le Θ208 Θ211) (r211 : -1 ≤ x211), W2_X1_restore_173 ω d G l0 l2 l4 l5 l6 l7 l8 l9 ((l10 + 1)) (g + G180 + G198 + G208 + G211) Θ211 Q)))))) : W2_X1_restore_173 ω d G l0 l2 l4 l5 l6 l7 l8 l9 l10 g Θ Q := sorry
def W2_X1_scan_51 (ω : AO) (d G : Nat) (l0 : Int) (g : Nat) (Θ : Th) (Q : Int → Th → Prop) : Prop := Hid (SJ2 ω yX1_scan cX1_scan 9 (some .int) d G (fun Sz Θz => (eI Sz (q2 ω Θz Q))) 51 [(2, l0), vN, vN, vN, vN, vN, vN, vN, vN] [] g Θ)
def W2_X1_scan_52 (ω : AO) (d G : Nat) (l0 s0 : Int) (g : Nat) (Θ : Th) (Q : Int → Th → Prop) : Prop := Hid (SJ2 ω yX1_scan cX1_scan 9 (some .int) d G (fun Sz Θz => (eI Sz (q2 ω Θz Q))) 52 [(2, l0), vN, vN, vN, vN, vN, vN, vN, vN] [(0, s0)] g Θ)
def W2_X1_scan_78 (ω : AO) (d G : Nat) (l0 l1 l2 l3 : Int) (g : Nat) (Θ : Th) (Q : Int → Th → Prop) : Prop := Hid (SJ2 ω yX1_scan cX1_scan 9 (some .int) d G (fun Sz Θz => (eI Sz (q2 ω Θz Q))) 78 [(2, l0), (0, l1), (2, l2), (0, l3), vN, vN, vN, vN, vN] [] g Θ)
def W2_X1_scan_197 (ω : AO) (d G : Nat) (l0 l1 l2 l3 l4 : Int) (g : Nat) (Θ : Th) (Q : Int → Th → Prop) : Prop := Hid (SJ2 ω yX1_scan cX1_scan 9 (some .int) d G (fun Sz Θz => (eI Sz (q2 ω Θz Q))) 197 [(2, l0), (0, l1), (2, l2), (2, l3), (0, l4), vN, vN, vN, vN] [] g Θ)
def W2_X1_scan_125 (ω : AO) (d G : Nat) (l0 l1 l2 l3 l4 l5 : Int) (g : Nat) (Θ : Th) (Q : Int → Th → Prop) : Prop := Hid (SJ2 ω yX1_scan cX1_scan 9 (some .int) d G (fun Sz Θz => (eI Sz (q2 ω Θz Q))) 125 [(2, l0), (0, l1), (2, l2), (0, l3), (2, l4), (0, l5), vN, vN, vN] [] g Θ)
def W2_X1_scan_311 (ω : AO) (d G : Nat) (l0 l1 l2 l3 l4 l5 : Int) (g : Nat) (Θ : Th) (Q : Int → Th → Prop) : Prop := Hid (SJ2 ω yX1_scan cX1_scan 9 (some .int) d G (fun Sz Θz => (eI Sz (q2 ω Θz Q))) 311 [(2, l0), (0, l1), (2, l2), (2, l3), (0, l4), (0, l5), vN, vN, vN] [] g Θ)
def W2_X1_scan_260 (ω : AO) (d G : Nat) (l0 l1 l2 l3 l4 l5 l6 : Int) (g : Nat) (Θ : Th) (Q : Int → Th → Prop) : Prop := Hid (SJ2 ω yX1_scan cX1_scan 9 (some .int) d G (fun Sz Θz => (eI Sz (q2 ω Θz Q))) 260 [(2, l0), (0, l1), (2, l2), (2, l3), (0, l4), (2, l5), (0, l6), vN, vN] [] g Θ)
def W2_X1_scan_411 (ω : AO) (d G : Nat) (l0 l1 l2 l4 l5 : Int) (g : Nat) (Θ : Th) (Q : Int → Th → Prop) : Prop := Hid (SJ2 ω yX1_scan cX1_scan 9 (some .int) d G (fun Sz Θz => (eI Sz (q2 ω Θz Q))) 411 [(2, l0), (0, l1), (2, l2), vN, (0, l4), (0, l5), vN, vN, vN] [] g Θ)
def W2_X1_scan_358 (ω : AO) (d G : Nat) (l0 l1 l2 l3 l4 l5 l6 l7 l8 : Int) (g : Nat) (Θ : Th) (Q : Int → Th → Prop) : Prop := Hid (SJ2 ω yX1_scan cX1_scan 9 (some .int) d G (fun Sz Θz => (eI Sz (q2 ω Θz Q))) 358 [(2, l0), (0, l1), (2, l2), (2, l3), (0, l4), (0, l5), (2, l6), (0, l7), (2, l8)] [] g Θ)
def W2_X1_scan_275 (ω : AO) (d G : Nat) (l0 l1 l2 l3 l4 l5 l6 : Int) (g : Nat) (Θ : Th) (Q : Int → Th → Prop) : Prop := Hid (SJ2 ω yX1_scan cX1_scan 9 (some .int) d G (fun Sz Θz => (eI Sz (q2 ω Θz Q))) 275 [(2, l0), (0, l1), (2, l2), (2, l3), (0, l4), (2, l5), (0, l6), vN, vN] [] g Θ)
def W2_X1_scan_525 (ω : AO) (d G : Nat) (l0 l1 l2 l4 l5 : Int) (g : Nat) (Θ : Th) (Q : Int → Th → Prop) : Prop := Hid (SJ2 ω yX1_scan cX1_scan 9 (some .int) d G (fun Sz Θz => (eI Sz (q2 ω Θz Q))) 525 [(2, l0), (0, l1), (2, l2), vN, (0, l4), (0, l5), vN, vN, vN] [] g Θ)
def W2_X1_scan_461 (ω : AO) (d G : Nat) (l0 l1 l2 l4 l5 l6 : Int) (g : Nat) (Θ : Th) (Q : Int → Th → Prop) : Prop := Hid (SJ2 ω yX1_scan cX1_scan 9 (some .int) d G (fun Sz Θz => (eI Sz (q2 ω Θz Q))) 461 [(2, l0), (0, l1), (2, l2), vN, (0, l4), (0, l5), (2, l6), vN, vN] [] g Θ)
def W2_X1_scan_488 (ω : AO) (d G : Nat) (l0 l1 l2 l4 l5 l6 : Int) (g : Nat) (Θ : Th) (Q : Int → Th → Prop) : Prop := Hid (SJ2 ω yX1_scan cX1_scan 9 (some .int) d G (fun Sz Θz => (eI Sz (q2 ω Θz Q))) 488 [(2, l0), (0, l1), (2, l2), vN, (0, l4), (0, l5), (2, l6), vN, vN] [] g Θ)
def W2_X1_scan_287 (ω : AO) (d G : Nat) (l0 l1 l2 l3 l4 l5 : Int) (g : Nat) (Θ : Th) (Q : Int → Th → Prop) : Prop := Hid (SJ2 ω yX1_scan cX1_scan 9 (some .int) d G (fun Sz Θz => (eI Sz (q2 ω Θz Q))) 287 [(2, l0), (0, l1), (2, l2), (2, l3), (0, l4), (2, l5), vN, vN, vN] [] g Θ)
def W2_X1_scan_579 (ω : AO) (d G : Nat) (l0 l1 l2 l4 l5 l6 : Int) (g : Nat) (Θ : Th) (Q : Int → Th → Prop) : Prop := Hid (SJ2 ω yX1_scan cX1_scan 9 (some .int) d G (fun Sz Θz => (eI Sz (q2 ω Θz Q))) 579 [(2, l0), (0, l1), (2, l2), vN, (0, l4), (0, l5), (2, l6), vN, vN] [] g Θ)
def W2_X1_scan_584 (ω : AO) (d G : Nat) (l0 l1 l2 l4 l5 l6 : Int) (g : Nat) (Θ : Th) (Q : Int → Th → Prop) : Prop := Hid (SJ2 ω yX1_scan cX1_scan 9 (some .int) d G (fun Sz Θz => (eI Sz (q2 ω Θz Q))) 584 [(2, l0), (0, l1), (2, l2), vN, (0, l4), (0, l5), (2, l6), vN, vN] [] g Θ)
set_option maxHeartbeats 4000000 in
theorem s2_X1_scan {ω : AO} {d G : Nat} {l0 : Int} {Θ : Th} {Q : Int → Th → Prop} (hB : (kd Θ l0 = 15) ∧ ∀ (v1 : Int) (e1 : v1 = gt (vv Θ l0) 7) (r1 : -1 ≤ v1), (kd Θ v1 = 21) ∧ ∀ (v4 : Int) (e4 : v4 = gt (vv Θ v1) 1) (r4 : -1 ≤ v4), (1 ≤ d) ∧ (kd Θ v4 = 3) ∧ ∀ (x7 : Int) (e7 : x7 = len (vv Θ v4)) (r7 : -2147483648 ≤ x7 ∧ x7 < 2147483648), (∀ (c13 : 2000 ≤ x7), W2_X1_scan_51 ω d G l0 (0) Θ Q) ∧ (∀ (c13 : x7 < 2000), ∀ (v17 : Int) (e17 : v17 = gt (vv Θ l0) 7) (r17 : -1 ≤ v17), (kd Θ v17 = 21) ∧ ∀ (v20 : Int) (e20 : v20 = gt (vv Θ v17) 7) (r20 : -2147483648 ≤ v20 ∧ v20 < 2147483648), (∀ (c26 : 40000 ≤ v20), W2_X1_scan_51 ω d G l0 (0) Θ Q) ∧ (∀ (c26 : v20 < 40000), ∃ G30 : Nat, (0 + G30 ≤ G) ∧ w2_X1_messagesToRead ω (d - 1) G30 l0 Θ (fun x30 Θ30 => ∀ (L30 : Le Θ Θ30) (r30 : -2147483648 ≤ x30 ∧ x30 < 2147483648), ∀ (v34 : Int) (e34 : v34 = gt (vv Θ30 l0) 6) (r34 : -1 ≤ v34), (kd Θ30 v34 = 3) ∧ (0 + G30 ≤ G) ∧ ∀ (x37 : Int) (e37 : x37 = len (vv Θ30 v34)) (r37 : -2147483648 ≤ x37 ∧ x37 < 2147483648), (-2147483648 ≤ (x30 + x37) ∧ (x30 + x37) < 2147483648) ∧ (∀ (c44 : 200 < (x30 + x37)), W2_X1_scan_51 ω d G l0 (0 + G30) Θ30 Q) ∧ (∀ (c44 : (x30 + x37) ≤ 200), W2_X1_scan_52 ω d G l0 1 (0 + G30) Θ30 Q))))) : w2_X1_scan ω d G l0 Θ Q := sorry
set_option maxHeartbeats 4000000 in
theorem s2_X1_scan_51 {ω : AO} {d G : Nat} {l0 : Int} {g : Nat} {Θ : Th} {Q : Int → Th → Prop} (hB : W2_X1_scan_52 ω d G l0 0 (g) Θ Q) : W2_X1_scan_51 ω d G l0 g Θ Q := sorry
set_option maxHeartbeats 4000000 in
theorem s2_X1_scan_52 {ω : AO} {d G : Nat} {l0 s0 : Int} {g : Nat} {Θ : Th} {Q : Int → Th → Prop} (hB : (1 ≤ d) ∧ ∃ G52 : Nat, (g + G52 ≤ G) ∧ w2_X1_may ω (d - 1) G52 s0 Θ (fun Θ52 => ∀ (L52 : Le Θ Θ52), (kd Θ52 l0 = 15) ∧ ∀ (v56 : Int) (e56 : v56 = gt (vv Θ52 l0) 1) (r56 : -1 ≤ v56), ∃ G60 : Nat, (g + G52 + G60 ≤ G) ∧ w2_J11_fill_2 ω (d - 1) G60 v56 0 Θ52 (fun Θ60 => ∀ (L60 : Le Θ52 Θ60), ∀ (v64 : Int) (e64 : v64 = gt (vv Θ60 l0) 6) (r64 : -1 ≤ v64), (kd Θ60 v64 = 3) ∧ (g + G52 + G60 ≤ G) ∧ ∀ (x67 : Int) (e67 : x67 = len (vv Θ60 v64)) (r67 : -2147483648 ≤ x67 ∧ x67 < 2147483648), ∃ G72 : Nat, (g + G52 + G60 + G72 ≤ G) ∧ w2_X1_there ω (d - 1) G72 l0 Θ60 (fun x72 Θ72 => ∀ (L72 : Le Θ60 Θ72) (r72 : -1 ≤ x72), W2_X1_scan_78 ω d G l0 x67 x72 0 (g + G52 + G60 + G72) Θ72 Q)))) : W2_X1_scan_52 ω d G l0 s0 g Θ Q := sorry
set_option maxHeartbeats 4000000 in
theorem s2_X1_scan_78 {ω : AO} {d G : Nat} {l0 l1 l2 l3 : Int} {g : Nat} {Θ : Th} {Q : Int → Th → Prop} (hB : (kd Θ l0 = 15) ∧ ∀ (v80 : Int) (e80 : v80 = gt (vv Θ l0) 6) (r80 : -1 ≤ v80), (1 ≤ d) ∧ (kd Θ v80 = 3) ∧ (g ≤ G) ∧ ∀ (x83 : Int) (e83 : x83 = len (vv Θ v80)) (r83 : -2147483648 ≤ x83 ∧ x83 < 2147483648), (-2147483648 ≤ l3 ∧ l3 < 2147483648) ∧ (∀ (c86 : x83 ≤ l3), (g + 1 ≤ G) ∧ ∀ (v178 : Int) (Θ178 : Th) (u178 : nt Θ ≤ v178 ∧ 0 ≤ v178) (b178 : Bl Θ) (t178 : Θ178 = nu Θ v178 (203, [], 0, 0)), (4 ≤ d) ∧ ∀ (k182 : Int) (Θ182 : Th) (t182 : Θ182 = uq Θ178 v178 (3, [], 0, k182)), ∀ (v187 : Int) (e187 : v187 = gt (vv Θ182 l0) 5) (r187 : -1 ≤ v187), (kd Θ182 v187 = 3) ∧ ∀ (x190 : Int) (e190 : x190 = len (vv Θ182 v187)) (r190 : -2147483648 ≤ x190 ∧ x190 < 2147483648), W2_X1_scan_197 ω d G l0 l1 l2 v178 ((x190 - 1)) (g + 1) Θ182 Q) ∧ (∀ (c86 : l3 < x83), ∀ (v90 : Int) (e90 : v90 = gt (vv Θ l0) 6) (r90 : -1 ≤ v90), (kd Θ v90 = 3) ∧ (0 ≤ l3 ∧ l3 < len (vv Θ v90)) ∧ (3 ≤ d) ∧ ∀ (x94 : Int) (e94 : x94 = gt (vv Θ v90) l3) (r94 : -1 ≤ x94), (x94 < 0 ∨ kd Θ x94 ∈ [29]) ∧ (kd Θ x94 = 29) ∧ (¬ fz Θ x94) ∧ ∀ (Θ105 : Th) (t105 : Θ105 = pf Θ x94 7 0), (¬ fz Θ105 x94) ∧ ∀ (Θ111 : Th) (t111 : Θ111 = pf Θ105 x94 8 0), ∀ (v116 : Int) (e116 : v116 = gt (vv Θ111 x94) 6) (r116 : -1 ≤ v116), (kd Θ111 v116 = 3) ∧ (¬ fz Θ111 v116) ∧ (2 ≤ d) ∧ ∀ (k119 : Int) (Θ119 : Th) (t119 : Θ119 = uq Θ111 v116 (3, [], cp Θ111 v116, k119)), W2_X1_scan_125 ω d G l0 l1 l2 l3 x94 0 (g) Θ119 Q)) : W2_X1_scan_78 ω d G l0 l1 l2 l3 g Θ Q := sorry
set_option maxHeartbeats 4000000 in
theorem s2_X1_scan_197 {ω : AO} {d G : Nat} {l0 l1 l2 l3 l4 : Int} {g : Nat} {Θ : Th} {Q : Int → Th → Prop} (hB : (-2147483648 ≤ l4 ∧ l4 < 2147483648) ∧ (∀ (c199 : l4 < 0), (1 ≤ d) ∧ (kd Θ l3 = 3) ∧ (g ≤ G) ∧ ∀ (x304 : Int) (e304 : x304 = len (vv Θ l3)) (r304 : -2147483648 ≤ x304 ∧ x304 < 2147483648), W2_X1_scan_311 ω d G l0 l1 l2 l3 0 ((x304 - 1)) (g) Θ Q) ∧ (∀ (c199 : 0 ≤ l4), (kd Θ l0 = 15) ∧ ∀ (v203 : Int) (e203 : v203 = gt (vv Θ l0) 5) (r203 : -1 ≤ v203), (1 ≤ d) ∧ (kd Θ v203 = 3) ∧ (0 ≤ l4 ∧ l4 < len (vv Θ v203)) ∧ (3 ≤ d) ∧ (g ≤ G) ∧ ∀ (x208 : Int) (e208 : x208 = gt (vv Θ v203) l4) (r208 : -1 ≤ x208), (x208 < 0 ∨ kd Θ x208 ∈ [26]) ∧ (kd Θ x208 = 26) ∧ ∀ (v218 : Int) (e218 : v218 = gt (vv Θ x208) 1) (r218 : -1 ≤ v218), (kd Θ v218 = 27) ∧ ∀ (v221 : Int) (e221 : v221 = gt (vv Θ v218) 0) (r221 : -2147483648 ≤ v221 ∧ v221 < 2147483648), (∀ (c224 : ¬ v221 = 0), ∃ G232 : Nat, (g + G232 ≤ G) ∧ w2_X1_howIs ω (d - 1) G232 x208 Θ (fun x232 Θ232 => ∀ (L232 : Le Θ Θ232) (r232 : -2147483648 ≤ x232 ∧ x232 < 2147483648), ∀ (v238 : Int) (e238 : v238 = gt (vv Θ232 l0) 1) (r238 : -1 ≤ v238), (kd Θ232 v238 = 104) ∧ (0 ≤ x232 ∧ x232 < len (vv Θ232 v238)) ∧ ∀ (v244 : Int) (e244 : v244 = gt (vv Θ232 v238) x232) (r244 : -2147483648 ≤ v244 ∧ v244 < 2147483648), (¬ fz Θ232 v238) ∧ (-2147483648 ≤ (v244 + 1) ∧ (v244 + 1) < 2147483648) ∧ ∀ (Θ247 : Th) (t247 : Θ247 = pf Θ232 v238 x232 (v244 + 1)), (∀ (c251 : 2 ≤ x232), W2_X1_scan_260 ω d G l0 l1 l2 l3 l4 x208 x232 (g + G232) Θ247 Q) ∧ (∀ (c251 : x232 < 2), ∃ G257 : Nat, (g + G232 + G257 ≤ G) ∧ w2_X1_forget ω (d - 1) G257 l0 x208 Θ247 (fun Θ257 => ∀ (L257 : Le Θ247 Θ257), W2_X1_scan_260 ω d G l0 l1 l2 l3 l4 x208 x232 (g + G232 + G257) Θ257 Q)))) ∧ (∀ (c224 : v221 = 0), W2_X1_scan_197 ω d G l0 l1 l2 l3 ((l4 + (-1))) (g) Θ Q))) : W2_X1_scan_197 ω d G l0 l1 l2 l3 l4 g Θ Q := sorry
set_option maxHeartbeats 4000000 in
theorem s2_X1_scan_125 {ω : AO} {d G : Nat} {l0 l1 l2 l3 l4 l5 : Int} {g : Nat} {Θ : Th} {Q : Int → Th → Prop} (hB : (kd Θ l4 = 29) ∧ ∀ (v129 : Int) (e129 : v129 = gt (vv Θ l4) 4) (r129 : -1 ≤ v129), (1 ≤ d) ∧ (kd Θ v129 = 3) ∧ (g ≤ G) ∧ ∀ (x132 : Int) (e132 : x132 = len (vv Θ v129)) (r132 : -2147483648 ≤ x132 ∧ x132 < 2147483648), (-2147483648 ≤ l5 ∧ l5 < 2147483648) ∧ (∀ (c135 : x132 ≤ l5), W2_X1_scan_78 ω d G l0 l1 l2 ((l3 + 1)) (g) Θ Q) ∧ (∀ (c135 : l5 < x132), ∀ (v140 : Int) (e140 : v140 = gt (vv Θ l4) 6) (r140 : -1 ≤ v140), ∀ (v145 : Int) (e145 : v145 = gt (vv Θ l4) 4) (r145 : -1 ≤ v145), (kd Θ v145 = 3) ∧ (0 ≤ l5 ∧ l5 < len (vv Θ v145)) ∧ (3 ≤ d) ∧ ∀ (x150 : Int) (e150 : x150 = gt (vv Θ v145) l5) (r150 : -1 ≤ x150), (x150 < 0 ∨ kd Θ x150 ∈ [31]) ∧ (kd Θ x150 = 31) ∧ ∃ G156 : Nat, (g + G156 ≤ G) ∧ w2_X18_file ω (d - 1) G156 x150 Θ (fun x156 Θ156 => ∀ (L156 : Le Θ Θ156) (r156 : -1 ≤ x156), (kd Θ156 x156 = 26) ∧ ∀ (v159 : Int) (e159 : v159 = gt (vv Θ156 x156) 0) (r159 : -1 ≤ v159), (kd Θ156 v140 = 3) ∧ (¬ fz Θ156 v140) ∧ (rf Θ156 v159) ∧ (adC (cp Θ156 v140) (len (vv Θ156 v140)) ≤ 60000000) ∧ (7 ≤ d) ∧ (g + G156 + (adC (cp Θ156 v140) (len (vv Θ156 v140)) - cp Θ156 v140).toNat ≤ G) ∧ ∀ (k162 : Int) (Θ162 : Th) (t162 : Θ162 = uq Θ156 v140 (3, vv Θ156 v140 ++ [v159], adC (cp Θ156 v140) (len (vv Θ156 v140)), k162)), W2_X1_scan_125 ω d G l0 l1 l2 l3 l4 ((l5 + 1)) (g + G156 + (adC (cp Θ156 v140) (len (vv Θ156 v140)) - cp Θ156 v140).toNat) Θ162 Q))) : W2_X1_scan_125 ω d G l0 l1 l2 l3 l4 l5 g Θ Q := sorry
set_option maxHeartbeats 4000000 in
theorem s2_X1_scan_311 {ω : AO} {d G : Nat} {l0 l1 l2 l3 l4 l5 : Int} {g : Nat} {Θ : Th} {Q : Int → Th → Prop} (hB : (-2147483648 ≤ l5 ∧ l5 < 2147483648) ∧ (∀ (c313 : l5 < 0), W2_X1_scan_411 ω d G l0 l1 l2 l4 0 (g) Θ Q) ∧ (∀ (c313 : 0 ≤ l5), (1 ≤ d) ∧ (kd Θ l3 = 3) ∧ (0 ≤ l5 ∧ l5 < len (vv Θ l3)) ∧ (3 ≤ d) ∧ (g ≤ G) ∧ ∀ (x319 : Int) (e319 : x319 = gt (vv Θ l3) l5) (r319 : -1 ≤ x319), (x319 < 0 ∨ kd Θ x319 ∈ [26]) ∧ (kd Θ x319 = 26) ∧ ∀ (v331 : Int) (e331 : v331 = gt (vv Θ x319) 2) (r331 : -1 ≤ v331), (¬ fz Θ x319) ∧ ∀ (Θ334 : Th) (t334 : Θ334 = pf Θ x319 4 v331), ∀ (v341 : Int) (e341 : v341 = gt (vv Θ334 x319) 3) (r341 : -2147483648 ≤ v341 ∧ v341 < 2147483648), (¬ fz Θ334 x319) ∧ ∀ (Θ344 : Th) (t344 : Θ344 = pf Θ334 x319 5 v341), (kd Θ344 l0 = 15) ∧ ∃ G353 : Nat, (g + G353 ≤ G) ∧ w2_X1_messagesOf ω (d - 1) G353 l0 x319 Θ344 (fun x353 Θ353 => ∀ (L353 : Le Θ344 Θ353) (r353 : -1 ≤ x353), W2_X1_scan_358 ω d G l0 l1 l2 l3 l4 l5 x319 0 x353 (g + G353) Θ353 Q))) : W2_X1_scan_311 ω d G l0 l1 l2 l3 l4 l5 g Θ Q := sorry
set_option maxHeartbeats 4000000 in
theorem s2_X1_scan_260 {ω : AO} {d G : Nat} {l0 l1 l2 l3 l4 l5 l6 : Int} {g : Nat} {Θ : Th} {Q : Int → Th → Prop} (hB : (-2147483648 ≤ l6 ∧ l6 < 2147483648) ∧ (∀ (c262 : ¬ l6 = 0), W2_X1_scan_275 ω d G l0 l1 l2 l3 l4 l5 l6 (g) Θ Q) ∧ (∀ (c262 : l6 = 0), (kd Θ l0 = 15) ∧ ∀ (v266 : Int) (e266 : v266 = gt (vv Θ l0) 5) (r266 : -1 ≤ v266), (1 ≤ d) ∧ (kd Θ v266 = 3) ∧ (¬ fz Θ v266) ∧ (0 ≤ l4 ∧ l4 < len (vv Θ v266)) ∧ (3 ≤ d) ∧ (g ≤ G) ∧ ∀ (x271 : Int) (e271 : x271 = gt (vv Θ v266) l4) (r271 : -1 ≤ x271), ∀ (k271 : Int) (Θ271 : Th) (t271 : Θ271 = uq Θ v266 (3, del (vv Θ v266) l4, cp Θ v266, k271)), W2_X1_scan_275 ω d G l0 l1 l2 l3 l4 l5 l6 (g) Θ271 Q)) : W2_X1_scan_260 ω d G l0 l1 l2 l3 l4 l5 l6 g Θ Q := sorry
set_option maxHeartbeats 4000000 in
theorem s2_X1_scan_411 {ω : AO} {d G : Nat} {l0 l1 l2 l4 l5 : Int} {g : Nat} {Θ : Th} {Q : Int → Th → Prop} (hB : (-2147483648 ≤ l5 ∧ l5 < 2147483648) ∧ (-2147483648 ≤ l1 ∧ l1 < 2147483648) ∧ (∀ (c414 : l1 ≤ l5), W2_X1_scan_525 ω d G l0 l1 l2 l4 0 (g) Θ Q) ∧ (∀ (c414 : l5 < l1), (kd Θ l0 = 15) ∧ ∀ (v418 : Int) (e418 : v418 = gt (vv Θ l0) 6) (r418 : -1 ≤ v418), (1 ≤ d) ∧ (kd Θ v418 = 3) ∧ (0 ≤ l5 ∧ l5 < len (vv Θ v418)) ∧ (3 ≤ d) ∧ (g ≤ G) ∧ ∀ (x423 : Int) (e423 : x423 = gt (vv Θ v418) l5) (r423 : -1 ≤ x423), (x423 < 0 ∨ kd Θ x423 ∈ [29]) ∧ (kd Θ x423 = 29) ∧ ∀ (v433 : Int) (e433 : v433 = gt (vv Θ x423) 7) (r433 : 0 ≤ v433 ∧ v433 < 2), (∀ (c436 : v433 = 0), W2_X1_scan_461 ω d G l0 l1 l2 l4 l5 x423 (g) Θ Q) ∧ (∀ (c436 : ¬ v433 = 0), ∃ G441 : Nat, (g + G441 ≤ G) ∧ w2_X16_isThere ω (d - 1) G441 x423 Θ (fun x441 Θ441 => ∀ (L441 : Le Θ Θ441) (r441 : x441 = 0 ∨ x441 = 1), (∀ (c444 : ¬ x441 = 0), W2_X1_scan_461 ω d G l0 l1 l2 l4 l5 x423 (g + G441) Θ441 Q) ∧ (∀ (c444 : x441 = 0), ∀ (v448 : Int) (e448 : v448 = gt (vv Θ441 l0) 1) (r448 : -1 ≤ v448), (kd Θ441 v448 = 104) ∧ (0 ≤ (7 : Int) ∧ 7 < len (vv Θ441 v448)) ∧ ∀ (v454 : Int) (e454 : v454 = gt (vv Θ441 v448) 7) (r454 : -2147483648 ≤ v454 ∧ v454 < 2147483648), (¬ fz Θ441 v448) ∧ (-2147483648 ≤ (v454 + 1) ∧ (v454 + 1) < 2147483648) ∧ ∀ (Θ457 : Th) (t457 : Θ457 = pf Θ441 v448 7 (v454 + 1)), W2_X1_scan_488 ω d G l0 l1 l2 l4 l5 x423 (g + G441) Θ457 Q))))) : W2_X1_scan_411 ω d G l0 l1 l2 l4 l5 g Θ Q := sorry
set_option maxHeartbeats 4000000 in
theorem s2_X1_scan_358 {ω : AO} {d G : Nat} {l0 l1 l2 l3 l4 l5 l6 l7 l8 : Int} {g : Nat} {Θ : Th} {Q : Int → Th → Prop} (hB : (1 ≤ d) ∧ (kd Θ l8 = 3) ∧ (g ≤ G) ∧ ∀ (x362 : Int) (e362 : x362 = len (vv Θ l8)) (r362 : -2147483648 ≤ x362 ∧ x362 < 2147483648), (-2147483648 ≤ l7 ∧ l7 < 2147483648) ∧ (∀ (c365 : x362 ≤ l7), W2_X1_scan_311 ω d G l0 l1 l2 l3 ((l4 + l7)) ((l5 + (-1))) (g) Θ Q) ∧ (∀ (c365 : l7 < x362), (0 ≤ l7 ∧ l7 < len (vv Θ l8)) ∧ (3 ≤ d) ∧ ∀ (x373 : Int) (e373 : x373 = gt (vv Θ l8) l7) (r373 : -1 ≤ x373), (x373 < 0 ∨ kd Θ x373 ∈ [28]) ∧ (kd Θ l0 = 15) ∧ ∃ G379 : Nat, (g + G379 ≤ G) ∧ w2_X1_mailOf ω (d - 1) G379 l0 x373 Θ (fun x379 Θ379 => ∀ (L379 : Le Θ Θ379) (r379 : -1 ≤ x379), (kd Θ379 x379 = 29) ∧ ∃ G386 : Nat, (g + G379 + G386 ≤ G) ∧ w2_X16_add ω (d - 1) G386 x379 l6 l7 Θ379 (fun Θ386 => ∀ (L386 : Le Θ379 Θ386), W2_X1_scan_358 ω d G l0 l1 l2 l3 l4 l5 l6 ((l7 + 1)) l8 (g + G379 + G386) Θ386 Q)))) : W2_X1_scan_358 ω d G l0 l1 l2 l3 l4 l5 l6 l7 l8 g Θ Q := sorry
set_option maxHeartbeats 4000000 in
theorem s2_X1_scan_275 {ω : AO} {d G : Nat} {l0 l1 l2 l3 l4 l5 l6 : Int} {g : Nat} {Θ : Th} {Q : Int → Th → Prop} (hB : (-2147483648 ≤ l6 ∧ l6 < 2147483648) ∧ (∀ (c278 : l6 = 1), W2_X1_scan_287 ω d G l0 l1 l2 l3 l4 l5 (g) Θ Q) ∧ (∀ (c278 : ¬ l6 = 1), (∀ (c284 : ¬ l6 = 2), W2_X1_scan_197 ω d G l0 l1 l2 l3 ((l4 + (-1))) (g) Θ Q) ∧ (∀ (c284 : l6 = 2), W2_X1_scan_287 ω d G l0 l1 l2 l3 l4 l5 (g) Θ Q))) : W2_X1_scan_275 ω d G l0 l1 l2 l3 l4 l5 l6 g Θ Q := sorry
set_option maxHeartbeats 4000000 in
theorem s2_X1_scan_525 {ω : AO} {d G : Nat} {l0 l1 l2 l4 l5 : Int} {g : Nat} {Θ : Th} {Q : Int → Th → Prop} (hB : (kd Θ l0 = 15) ∧ ∀ (v528 : Int) (e528 : v528 = gt (vv Θ l0) 6) (r528 : -1 ≤ v528), (1 ≤ d) ∧ (kd Θ v528 = 3) ∧ (g ≤ G) ∧ ∀ (x531 : Int) (e531 : x531 = len (vv Θ v528)) (r531 : -2147483648 ≤ x531 ∧ x531 < 2147483648), (-2147483648 ≤ l5 ∧ l5 < 2147483648) ∧ (∀ (c534 : x531 ≤ l5), (-2147483648 ≤ l4 ∧ l4 < 2147483648) ∧ Q l4 Θ) ∧ (∀ (c534 : l5 < x531), ∀ (v538 : Int) (e538 : v538 = gt (vv Θ l0) 6) (r538 : -1 ≤ v538), (kd Θ v538 = 3) ∧ (0 ≤ l5 ∧ l5 < len (vv Θ v538)) ∧ (3 ≤ d) ∧ ∀ (x543 : Int) (e543 : x543 = gt (vv Θ v538) l5) (r543 : -1 ≤ x543), (x543 < 0 ∨ kd Θ x543 ∈ [29]) ∧ (-2147483648 ≤ l1 ∧ l1 < 2147483648) ∧ (∀ (c554 : l1 ≤ l5), W2_X1_scan_579 ω d G l0 l1 l2 l4 l5 x543 (g) Θ Q) ∧ (∀ (c554 : l5 < l1), (kd Θ x543 = 29) ∧ ∀ (v559 : Int) (e559 : v559 = gt (vv Θ x543) 8) (r559 : 0 ≤ v559 ∧ v559 < 2), (∀ (c562 : ¬ v559 = 0), W2_X1_scan_579 ω d G l0 l1 l2 l4 l5 x543 (g) Θ Q) ∧ (∀ (c562 : v559 = 0), (kd Θ l2 = 22) ∧ ∃ G568 : Nat, (g + G568 ≤ G) ∧ w2_X8_get ω (d - 1) G568 l2 l5 Θ (fun x568 Θ568 => ∀ (L568 : Le Θ Θ568) (r568 : x568 = 0 ∨ x568 = 1), ∃ G573 : Nat, (g + G568 + G573 ≤ G) ∧ w2_X16_isThere ω (d - 1) G573 x543 Θ568 (fun x573 Θ573 => ∀ (L573 : Le Θ568 Θ573) (r573 : x573 = 0 ∨ x573 = 1), (∀ (c576 : x568 = x573), W2_X1_scan_584 ω d G l0 l1 l2 l4 l5 x543 (g + G568 + G573) Θ573 Q) ∧ (∀ (c576 : ¬ x568 = x573), W2_X1_scan_579 ω d G l0 l1 l2 l4 l5 x543 (g + G568 + G573) Θ573 Q))))))) : W2_X1_scan_525 ω d G l0 l1 l2 l4 l5 g Θ Q := sorry
set_option maxHeartbeats 4000000 in
theorem s2_X1_scan_461 {ω : AO} {d G : Nat} {l0 l1 l2 l4 l5 l6 : Int} {g : Nat} {Θ : Th} {Q : Int → Th → Prop} (hB : (kd Θ l6 = 29) ∧ ∀ (v463 : Int) (e463 : v463 = gt (vv Θ l6) 7) (r463 : 0 ≤ v463 ∧ v463 < 2), (∀ (c466 : v463 = 0), W2_X1_scan_488 ω d G l0 l1 l2 l4 l5 l6 (g) Θ Q) ∧ (∀ (c466 : ¬ v463 = 0), (1 ≤ d) ∧ ∃ G471 : Nat, (g + G471 ≤ G) ∧ w2_X16_isElsewhere ω (d - 1) G471 l6 Θ (fun x471 Θ471 => ∀ (L471 : Le Θ Θ471) (r471 : x471 = 0 ∨ x471 = 1), (∀ (c474 : x471 = 0), W2_X1_scan_488 ω d G l0 l1 l2 l4 l5 l6 (g + G471) Θ471 Q) ∧ (∀ (c474 : ¬ x471 = 0), (kd Θ471 l0 = 15) ∧ ∀ (v478 : Int) (e478 : v478 = gt (vv Θ471 l0) 1) (r478 : -1 ≤ v478), (kd Θ471 v478 = 104) ∧ (0 ≤ (6 : Int) ∧ 6 < len (vv Θ471 v478)) ∧ ∀ (v484 : Int) (e484 : v484 = gt (vv Θ471 v478) 6) (r484 : -2147483648 ≤ v484 ∧ v484 < 2147483648), (¬ fz Θ471 v478) ∧ (-2147483648 ≤ (v484 + 1) ∧ (v484 + 1) < 2147483648) ∧ ∀ (Θ487 : Th) (t487 : Θ487 = pf Θ471 v478 6 (v484 + 1)), W2_X1_scan_488 ω d G l0 l1 l2 l4 l5 l6 (g + G471) Θ487 Q)))) : W2_X1_scan_461 ω d G l0 l1 l2 l4 l5 l6 g Θ Q := sorry
set_option maxHeartbeats 4000000 in
theorem s2_X1_scan_488 {ω : AO} {d G : Nat} {l0 l1 l2 l4 l5 l6 : Int} {g : Nat} {Θ : Th} {Q : Int → Th → Prop} (hB : (1 ≤ d) ∧ (kd Θ l2 = 22) ∧ ∃ G491 : Nat, (g + G491 ≤ G) ∧ w2_X8_get ω (d - 1) G491 l2 l5 Θ (fun x491 Θ491 => ∀ (L491 : Le Θ Θ491) (r491 : x491 = 0 ∨ x491 = 1), (∀ (c494 : ¬ x491 = 0), W2_X1_scan_411 ω d G l0 l1 l2 l4 ((l5 + 1)) (g + G491) Θ491 Q) ∧ (∀ (c494 : x491 = 0), (kd Θ491 l6 = 29) ∧ ∃ G499 : Nat, (g + G491 + G499 ≤ G) ∧ w2_X16_isThere ω (d - 1) G499 l6 Θ491 (fun x499 Θ499 => ∀ (L499 : Le Θ491 Θ499) (r499 : x499 = 0 ∨ x499 = 1), (∀ (c502 : x499 = 0), W2_X1_scan_411 ω d G l0 l1 l2 l4 ((l5 + 1)) (g + G491 + G499) Θ499 Q) ∧ (∀ (c502 : ¬ x499 = 0), (kd Θ499 l0 = 15) ∧ ∀ (v506 : Int) (e506 : v506 = gt (vv Θ499 l0) 1) (r506 : -1 ≤ v506), (kd Θ499 v506 = 104) ∧ (0 ≤ (8 : Int) ∧ 8 < len (vv Θ499 v506)) ∧ ∀ (v512 : Int) (e512 : v512 = gt (vv Θ499 v506) 8) (r512 : -2147483648 ≤ v512 ∧ v512 < 2147483648), (¬ fz Θ499 v506) ∧ (-2147483648 ≤ (v512 + 1) ∧ (v512 + 1) < 2147483648) ∧ ∀ (Θ515 : Th) (t515 : Θ515 = pf Θ499 v506 8 (v512 + 1)), W2_X1_scan_411 ω d G l0 l1 l2 l4 ((l5 + 1)) (g + G491 + G499) Θ515 Q))))) : W2_X1_scan_488 ω d G l0 l1 l2 l4 l5 l6 g Θ Q := sorry
set_option maxHeartbeats 4000000 in
theorem s2_X1_scan_287 {ω : AO} {d G : Nat} {l0 l1 l2 l3 l4 l5 : Int} {g : Nat} {Θ : Th} {Q : Int → Th → Prop} (hB : (1 ≤ d) ∧ (kd Θ l3 = 3) ∧ (¬ fz Θ l3) ∧ (rf Θ l5) ∧ (adC (cp Θ l3) (len (vv Θ l3)) ≤ 60000000) ∧ (7 ≤ d) ∧ (g + (adC (cp Θ l3) (len (vv Θ l3)) - cp Θ l3).toNat ≤ G) ∧ ∀ (k290 : Int) (Θ290 : Th) (t290 : Θ290 = uq Θ l3 (3, vv Θ l3 ++ [l5], adC (cp Θ l3) (len (vv Θ l3)), k290)), W2_X1_scan_197 ω d G l0 l1 l2 l3 ((l4 + (-1))) (g + (adC (cp Θ l3) (len (vv Θ l3)) - cp Θ l3).toNat) Θ290 Q) : W2_X1_scan_287 ω d G l0 l1 l2 l3 l4 l5 g Θ Q := sorry
set_option maxHeartbeats 4000000 in
theorem s2_X1_scan_579 {ω : AO} {d G : Nat} {l0 l1 l2 l4 l5 l6 : Int} {g : Nat} {Θ : Th} {Q : Int → Th → Prop} (hB : (kd Θ l0 = 15) ∧ (¬ fz Θ l0) ∧ ∀ (Θ581 : Th) (t581 : Θ581 = pf Θ l0 20 0), W2_X1_scan_584 ω d G l0 l1 l2 l4 l5 l6 (g) Θ581 Q) : W2_X1_scan_579 ω d G l0 l1 l2 l4 l5 l6 g Θ Q := sorry
set_option maxHeartbeats 4000000 in
theorem s2_X1_scan_584 {ω : AO} {d G : Nat} {l0 l1 l2 l4 l5 l6 : Int} {g : Nat} {Θ : Th} {Q : Int → Th → Prop} (hB : (1 ≤ d) ∧ (kd Θ l0 = 15) ∧ ∃ G587 : Nat, (g + G587 ≤ G) ∧ w2_X1_enter ω (d - 1) G587 l0 l6 Θ (fun Θ587 => ∀ (L587 : Le Θ Θ587), W2_X1_scan_525 ω d G l0 l1 l2 l4 ((l5 + 1)) (g + G587) Θ587 Q)) : W2_X1_scan_584 ω d G l0 l1 l2 l4 l5 l6 g Θ Q := sorry
/-! 88.ab.lean.txt -/
/-! may, want, fill; write, delete, rename -/
set_option maxRecDepth 100000
set_option maxHeartbeats 4000000
section MWF
variable {ω : AO} {d G : Nat} {Θ : Th} {a v : Int} {l : List Int}
theorem u_X1_may {Q : Th → Prop} {z : Int} (hz : inI z) (h : ¬ z = 0) (hQ : Q Θ) : w2_X1_may ω d G z Θ Q := sorry
theorem u_X1_want {Q : Th → Prop} {z : Int} (hz : inI z) (h : ¬ z = 0) (hQ : Q Θ) : w2_X1_want ω d G z Θ Q := sorry
def fillN (v : Int) : Nat → List Int → List Int
  | 0, l => l
  | n + 1, l => (fillN v n l).set n v
theorem fillN_len : ∀ (n : Nat) (l : List Int), len (fillN v n l) = len l := sorry
theorem fillN_all (l : List Int) : fillN v l.length l = List.replicate l.length v := sorry
/-- all of a row of numbers is set -/
theorem u_J11_fill_2 {Q : Th → Prop} (h : xo Θ a = (104, l, 0, 0)) (hf : ¬ fz Θ a) (hl : len l < 2147483648) (hv : inI v) (hQ : ∀ Θ', Θ' = uq Θ a (104, List.replicate l.length v, 0, 0) → Q Θ') : w2_J11_fill_2 ω d G a v Θ Q := sorry
end MWF

/-! 88.ac.lean.txt -/
/-! write, delete, rename, when they may -/
set_option maxRecDepth 100000
set_option maxHeartbeats 4000000
section WRD
variable {ω : AO} {d G : Nat} {Θ : Th} {o l1 hA : Int} {A : Int → Int} {F R D tp ou w : List Int} {ct co eo cf : Int} {FB : List FiR} {K : List It}
theorem fsL_take {F' : List Int} {tp' : List Int} {ct' : Int} {K' : List It} : hdL o A F' R D tp' ou ct' co eo (lsI (A 5) (fad FB) cf :: (fiL FB ++ K')) = fsL o A F' R D tp' ou ct' co eo FB cf K' := rfl
theorem u_X1_write {Q : Int → Th → Prop} (hd : 18 ≤ d) (hO : OwS Θ (fsL o A F R D tp ou ct co eo FB cf K)) (hF : FA F A) (hlF : len F = 21) (hZ : ∀ r, r ∈ FB → FiZ Θ r) (hS : SrtK (fnm FB)) (hh : gt F 14 = hA) (hw : Str Θ hA w) (hwd : wide w = 0) (hlw : len w ≤ 1000) (hl1 : inI l1) (hmay : gt F 15 < 40 ∨ fiX FB w ≠ none) (ht : 0 ≤ gt F 15 ∧ gt F 15 < 2000000000) (hn : (FB.length : Int) < 1000000) (hc : cf ≤ 1000000) (hc0 : cf ≤ adC cf (FB.length : Int) ∧ adC cf (FB.length : Int) ≤ 10000000) (htl : len tp ≤ 2000)
    (hG : len tp + 5 + (len w + 14 + (puC FB w cf - cf)) ≤ (G : Int)) (hpu : cf ≤ puC FB w cf) (hQ : ∀ x v lb Θ', OwT Θ (fsL o A F R D tp ou ct co eo FB cf K) Θ' (fsL o A (F.set 15 (puT FB w (gt F 15))) R D [] ou ct co eo (puB FB v lb hA w x tp l1) (puC FB w cf) K) → (∀ r, r ∈ puB FB v lb hA w x tp l1 → FiZ Θ' r) → SrtK (fnm (puB FB v lb hA w x tp l1)) → Q (puT FB w (gt F 15)) Θ') : w2_X1_write ω d G o l1 Θ Q := sorry
/-- a found file stands somewhere -/
theorem fiX_at {r : FiR} (hq : fiX FB w = some r) : FB[lbF FB w]? = some r ∧ gt r.2.1 6 ≠ 0 ∧ isK (fnm FB) w = true := sorry
theorem u_X1_delete {Q : Int → Th → Prop} (hd : 10 ≤ d) (hO : OwS Θ (fsL o A F R D tp ou ct co eo FB cf K)) (hF : FA F A) (hlF : len F = 21) (hZ : ∀ r, r ∈ FB → FiZ Θ r) (hS : SrtK (fnm FB)) (hh : gt F 14 = hA) (hw : Str Θ hA w) (ht : fiX FB w ≠ none → 0 < gt F 15) (ht2 : gt F 15 < 2000000000) (hn : (FB.length : Int) < 1000000)
    (hQ0 : fiX FB w = none → Q 0 Θ) (hQ : fiX FB w ≠ none → ∀ Θ', OwT Θ (fsL o A F R D tp ou ct co eo FB cf K) Θ' (fsL o A (F.set 15 (gt F 15 - 1)) R D tp ou ct co eo (rmB FB (lbF FB w)) cf K) → (∀ r, r ∈ rmB FB (lbF FB w) → FiZ Θ' r) → SrtK (fnm (rmB FB (lbF FB w))) → Q 1 Θ') : w2_X1_delete ω d G o Θ Q := sorry
theorem u_X1_rename {Q : Th → Prop} {r : FiR} (hd : 18 ≤ d) (hO : OwS Θ (fsL o A F R D tp ou ct co eo FB cf K)) (hF : FA F A) (hlF : len F = 21) (hZ : ∀ r, r ∈ FB → FiZ Θ r) (hS : SrtK (fnm FB)) (hh : gt F 14 = hA) (hw : Str Θ hA w) (hf : fiX FB w = some r) (hnm : isNm tp = true) (htw : wide tp = 0) (htl : len tp ≤ 1000) (hin : inI (gt r.2.1 3)) (ht : 0 < gt F 15 ∧ gt F 15 < 2000000000) (hn : (FB.length : Int) < 1000000) (hc : cf ≤ 1000000) (hc0 : cf ≤ adC cf ((rmB FB (lbF FB w)).length : Int) ∧ adC cf ((rmB FB (lbF FB w)).length : Int) ≤ 10000000)
    (hpu : cf ≤ puC (rmB FB (lbF FB w)) tp cf) (hG : len tp + 5 + (len tp + 14 + (puC (rmB FB (lbF FB w)) tp cf - cf)) ≤ (G : Int)) (hQ : ∀ x v lb Θ', OwT Θ (fsL o A F R D tp ou ct co eo FB cf K) Θ' (fsL o A (((F.set 15 (gt F 15 - 1)).set 15 (puT (rmB FB (lbF FB w)) tp (gt F 15 - 1))).set 14 x) R D [] ou ct co eo (puB (rmB FB (lbF FB w)) v lb x tp (gt r.2.1 2) r.2.2.2.1 (gt r.2.1 3)) (puC (rmB FB (lbF FB w)) tp cf) K) → (∀ q, q ∈ puB (rmB FB (lbF FB w)) v lb x tp (gt r.2.1 2) r.2.2.2.1 (gt r.2.1 3) → FiZ Θ' q) → SrtK (fnm (puB (rmB FB (lbF FB w)) v lb x tp (gt r.2.1 2) r.2.2.2.1 (gt r.2.1 3))) → Str Θ' x tp → Q Θ') : w2_X1_rename ω d G o Θ Q := sorry
end WRD

/-! 88.ad.lean.txt -/
/-! tags -/
set_option maxRecDepth 100000
set_option maxHeartbeats 4000000
section TAG
variable {ω : AO} {d G : Nat} {Θ Θ1 : Th} {o l1 l2 n : Int} {A : Int → Int} {F R D tp ou ML : List Int} {ct co eo cl : Int} {N : Nat} {ma : Int → Int} {mf : Int → List Int} {pa : Int → Int} {pls : Int → List Int} {pc ta tp1 tq : Int → Int} {tk : Int → List (List Int)} {tv : Int → List Int} {t1 t2 hA : Int → Int} {hr : Int → List Int} {hc : Int → Int} {K : List It} {ks : List (List Int)} {vs : List Int} {c1 c2 : Int}
theorem mt_t (h0 : 0 ≤ n) (h1 : n < (N : Int)) : (msL o A F R D tp ou ct co eo ML cl N ma mf pa pls pc (mtK N ta tp1 tq tk tv t1 t2 hA hr hc K))[((n.toNat + N) + N) + 6]? = some (soI (ta n) (tp1 n) (tq n) (tk n) (tv n) (t1 n) (t2 n)) := sorry
theorem mt_tS (h0 : 0 ≤ n) (h1 : n < (N : Int)) : (msL o A F R D tp ou ct co eo ML cl N ma mf pa pls pc (mtK N ta tp1 tq tk tv t1 t2 hA hr hc K)).set (((n.toNat + N) + N) + 6) (soI (ta n) (tp1 n) (tq n) ks vs c1 c2) = msL o A F R D tp ou ct co eo ML cl N ma mf pa pls pc (mtK N ta tp1 tq (fup tk n ks) (fup tv n vs) (fup t1 n c1) (fup t2 n c2) hA hr hc K) := sorry
/-- tags of one mail take other values -/
theorem mt_up (hO : OwS Θ (msL o A F R D tp ou ct co eo ML cl N ma mf pa pls pc (mtK N ta tp1 tq tk tv t1 t2 hA hr hc K))) (h0 : 0 ≤ n) (h1 : n < (N : Int)) (g : GrX (exS (tp1 n) (tq n)) Θ Θ1) (hs : SoO Θ1 (ta n) (tp1 n) (tq n) ks vs c1 c2) : OwT Θ (msL o A F R D tp ou ct co eo ML cl N ma mf pa pls pc (mtK N ta tp1 tq tk tv t1 t2 hA hr hc K)) Θ1 (msL o A F R D tp ou ct co eo ML cl N ma mf pa pls pc (mtK N ta tp1 tq (fup tk n ks) (fup tv n vs) (fup t1 n c1) (fup t2 n c2) hA hr hc K)) := sorry
theorem mt_so (hO : OwS Θ (msL o A F R D tp ou ct co eo ML cl N ma mf pa pls pc (mtK N ta tp1 tq tk tv t1 t2 hA hr hc K))) (h0 : 0 ≤ n) (h1 : n < (N : Int)) : SoO Θ (ta n) (tp1 n) (tq n) (tk n) (tv n) (t1 n) (t2 n) := hO.at (mt_t h0 h1)
theorem u_X1_tag {Q : Int → Th → Prop} (hd : 14 ≤ d) (hO : OwS Θ (msL o A F R D tp ou ct co eo ML cl N ma mf pa pls pc (mtK N ta tp1 tq tk tv t1 t2 hA hr hc K))) (hF : FA F A) (hML : len ML = (N : Int) ∧ ∀ n, 0 ≤ n → n < (N : Int) → gt ML n = ma n) (h5 : ∀ n, 0 ≤ n → n < (N : Int) → gt (mf n) 5 = ta n) (hma : ∀ n, 0 ≤ ma n) (hl1 : 0 ≤ l1 ∧ l1 < (N : Int)) (hi1 : inI l1) (hl2 : inI l2) (htl : len tp ≤ 2000) (htw : wide tp = 0) (hcb : cbF tp = true) (hmay : ¬ l2 = 0 → isK (tk l1) tp = false → (tk l1).length < 8) (htk : (tk l1).length ≤ 1000) (htv : ∀ v, v ∈ tv l1 → 0 ≤ v) (hcp : adC (t1 l1) ((tk l1).length : Int) ≤ 60000000 ∧ adC (t2 l1) ((tk l1).length : Int) ≤ 60000000)
    (hG : len tp + 5 + (if ¬ l2 = 0 ∧ isK (tk l1) tp = false then adC (t1 l1) ((tk l1).length : Int) - t1 l1 + (adC (t2 l1) ((tk l1).length : Int) - t2 l1) else 0) ≤ (G : Int)) (hG0 : 0 ≤ adC (t1 l1) ((tk l1).length : Int) - t1 l1 + (adC (t2 l1) ((tk l1).length : Int) - t2 l1))
    (hQ0 : ((l2 = 0 ∧ isK (tk l1) tp = false) ∨ (¬ l2 = 0 ∧ isK (tk l1) tp = true)) → ∀ Θ', OwT Θ (msL o A F R D tp ou ct co eo ML cl N ma mf pa pls pc (mtK N ta tp1 tq tk tv t1 t2 hA hr hc K)) Θ' (msL o A F R D [] ou ct co eo ML cl N ma mf pa pls pc (mtK N ta tp1 tq tk tv t1 t2 hA hr hc K)) → Q 0 Θ')
    (hQr : l2 = 0 → isK (tk l1) tp = true → ∀ Θ', OwT Θ (msL o A F R D tp ou ct co eo ML cl N ma mf pa pls pc (mtK N ta tp1 tq tk tv t1 t2 hA hr hc K)) Θ' (msL o A F R D [] ou ct co eo ML cl N ma mf pa pls pc (mtK N ta tp1 tq (fup tk l1 (delK (tk l1) tp)) (fup tv l1 (del (tv l1) (lbK (tk l1) tp))) t1 t2 hA hr hc K)) → Q 1 Θ')
    (hQp : ¬ l2 = 0 → isK (tk l1) tp = false → ∀ x Θ', OwT Θ (msL o A F R D tp ou ct co eo ML cl N ma mf pa pls pc (mtK N ta tp1 tq tk tv t1 t2 hA hr hc K)) Θ' (msL o A F R D [] ou ct co eo ML cl N ma mf pa pls pc (mtK N ta tp1 tq (fup tk l1 (insK (tk l1) tp)) (fup tv l1 (ins (tv l1) (lbK (tk l1) tp) x)) (fup t1 l1 (adC (t1 l1) ((tk l1).length : Int))) (fup t2 l1 (adC (t2 l1) ((tk l1).length : Int))) hA hr hc K)) → 0 ≤ x → Q 1 Θ') : w2_X1_tag ω d G o l1 l2 Θ Q := sorry
end TAG

/-! 88.ae.lean.txt -/
/-! dump -/
set_option maxRecDepth 100000
set_option maxHeartbeats 4000000
/-- the pieces of a line; of all lines -/
def lnP (r : MaR) : List (List Int) := r.2.1 :: (r.2.2.2.2.flatMap (fun t => [[32], t]) ++ [[10]])
def dmO (M : Int → MaR) (n : Nat) : Nat → Int → List Int
  | 0, _ => []
  | f + 1, last => if nlF M last n < 0 then [] else nlF M last n :: dmO M n f (nlF M last n)
def dmP (M : Int → MaR) (n f : Nat) (last : Int) : List (List Int) := (dmO M n f last).flatMap (fun k => lnP (M k))
/-- the room that pieces take -/
def pieC (co m : Int) : List (List Int) → Int
  | [] => co
  | p :: r => pieC (bC co (m + len p)) (m + len p) r
theorem pieC_in : ∀ (r : List (List Int)) (co m : Int), 16 ≤ co → 0 ≤ m → m ≤ co → co ≤ pieC co m r := sorry
theorem len_flat {p : List Int} {r : List (List Int)} : len (p :: r).flatten = len p + len r.flatten := by rw [List.flatten_cons, len_app]
/-- lines that are still to come -/
def elB (M : Int → MaR) (last k : Int) : Bool := decide ((M k).2.1 ≠ []) && (decide ((M k).2.2.2.2 ≠ []) && (decide (last < 0) || ahB (M last) (M k)))
theorem elB_iff {M : Int → MaR} {last k : Int} : elB M last k = true ↔ ¬ ((M k).2.1 = [] ∨ (M k).2.2.2.2 = [] ∨ (0 ≤ last ∧ ¬ ahB (M last) (M k) = true)) := sorry
theorem nlF_el {M : Int → MaR} {last : Int} : ∀ n : Nat, 0 ≤ nlF M last n → elB M last (nlF M last n) = true := sorry
/-- the order of lines -/
theorem ahB_irr {r : MaR} : ¬ ahB r r = true := sorry
theorem ahB_tr {r s t : MaR} (h1 : ahB r s = true) (h2 : ahB s t = true) : ahB r t = true := sorry
def elN (M : Int → MaR) (last : Int) (n : Nat) : Nat := ((List.range n).filter (fun (k : Nat) => elB M last (k : Int))).length
theorem filter_lt {α : Type} {p q : α → Bool} : ∀ {l : List α}, (∀ x, x ∈ l → q x = true → p x = true) → ∀ {y : α}, y ∈ l → p y = true → q y = false → (l.filter q).length < (l.filter p).length := sorry
theorem elN_lt {M : Int → MaR} {last : Int} {n : Nat} (h : 0 ≤ nlF M last n) : elN M (nlF M last n) n < elN M last n := sorry
/-- how long all lines are -/
def dmN (M : Int → MaR) : Nat → Int
  | 0 => 0
  | k + 1 => dmN M k + (if (M (k : Int)).2.1 = [] ∨ (M (k : Int)).2.2.2.2 = [] then 0 else llA (len (M (k : Int)).2.1 + 1) (M (k : Int)).2.2.2.2)
theorem dmN_ge {M : Int → MaR} : ∀ k n : Nat, k ≤ n → 0 ≤ dmN M k ∧ dmN M k ≤ dmN M n := sorry
section MGX
variable {Θ Θ1 : Th} {o m : Int} {F ML : List Int} {M : Int → MaR} {nm : Int → List Int} {fl : Int → Int} {r : MaR} {ex : Int → Prop}
theorem MaV.gx (h : MaV Θ m r nm fl) (g : GrX ex Θ Θ1) (hx : ∀ z, ex z → kd Θ z = 1) : MaV Θ1 m r nm fl := sorry
theorem WsV.gx (h : WsV Θ o F ML M nm fl) (g : GrX ex Θ Θ1) (hx : ∀ z, ex z → kd Θ z = 1) : WsV Θ1 o F ML M nm fl := sorry
end MGX
section DMP
variable {ω : AO} {d G : Nat} {Θ Θ0 Θ1 : Th} {L0 : List It} {o v : Int} {A : Int → Int} {F R D tp ou ML p : List Int} {ct co : Int} {K : List It} {M : Int → MaR} {nm : Int → List Int} {fl : Int → Int}
/-- a piece comes to the output -/
theorem hwApp {e : Int} (h : OwS Θ (hdL o A F R D tp ou ct co 0 K)) (hv : v = A 3) (he : e = 0) (t : Θ1 = uq Θ v (1, vv Θ v ++ p, bC (cp Θ v) (len (vv Θ v) + len p), e)) : OwT Θ (hdL o A F R D tp ou ct co 0 K) Θ1 (hdL o A F R D tp (ou ++ p) ct (bC co (len ou + len p)) 0 K) ∧ GrX (· = A 3) Θ Θ1 ∧ ∀ z, z = A 3 → kd Θ z = 1 := sorry
theorem hwApg {e : Int} (h : OwS Θ (hdL o A F R D tp ou ct co 0 K)) (hv : v = A 3) (he : e = 0) : bK (bC (cp Θ v) (len (vv Θ v) + len p)) e - bK (cp Θ v) (cx Θ v) = bC co (len ou + len p) - co := sorry
/-- the tags of a line -/
theorem u_dm129 {Q : Int → Th → Prop} {KF : Int} {rest : List (List Int)} {FIN : List Int} {k : Int} (hd : 14 ≤ d) (hO0 : OwS Θ0 L0) (hF : FA F A) (hk : 0 ≤ k ∧ k < len ML) (hK4 : KF ≤ 100000) (hFl : len FIN ≤ 5000) (hwt : ∀ t, t ∈ (M k).2.2.2.2 → wide t = 0) (c00 : Int) (hKG : KF - c00 ≤ (G : Int)) (hml : (M k).2.2.2.2.length ≤ 100000) (hrk : ∀ k, 0 ≤ k → k < len ML → 0 ≤ gt ML k)
    (hQ : ∀ Θ1 ou1 co1 (g1 : Nat), OwT Θ0 L0 Θ1 (hdL o A F R D tp ou1 ct co1 0 K) → WsV Θ1 o F ML M nm fl → 16 ≤ co1 → len ou1 ≤ co1 → ou1 ++ rest.flatten = FIN → pieC co1 (len ou1) rest = KF → (g1 : Int) ≤ co1 - c00 → W2_X1_dump_111 ω d G o (if nlF M k ML.length < 0 then -1 else gt ML (nlF M k ML.length)) g1 Θ1 Q) :
    ∀ (N j : Nat) (Θ1 : Th) (ou1 : List Int) (co1 : Int) (g1 : Nat), (M k).2.2.2.2.length - j = N → j ≤ (M k).2.2.2.2.length → OwT Θ0 L0 Θ1 (hdL o A F R D tp ou1 ct co1 0 K) → WsV Θ1 o F ML M nm fl → 16 ≤ co1 → len ou1 ≤ co1 → ou1 ++ (((M k).2.2.2.2.drop j).flatMap (fun t => [[32], t]) ++ [[10]] ++ rest).flatten = FIN → pieC co1 (len ou1) (((M k).2.2.2.2.drop j).flatMap (fun t => [[32], t]) ++ [[10]] ++ rest) = KF → (g1 : Int) ≤ co1 - c00 → W2_X1_dump_129 ω d G o (gt ML k) (j : Int) g1 Θ1 Q := sorry
/-- the lines, one by one -/
theorem u_dm111 {Q : Int → Th → Prop} {KF : Int} {FIN : List Int} (hd : 14 ≤ d) (hO0 : OwS Θ0 L0) (hF : FA F A) (hK4 : KF ≤ 100000) (hFl : len FIN ≤ 5000) (hwt : ∀ k, 0 ≤ k → k < len ML → wide (M k).2.1 = 0 ∧ (∀ t, t ∈ (M k).2.2.2.2 → wide t = 0) ∧ (M k).2.2.2.2.length ≤ 100000) (c00 : Int) (hKG : KF - c00 ≤ (G : Int)) (hrk : ∀ k, 0 ≤ k → k < len ML → 0 ≤ gt ML k)
    (hQ : ∀ Θ1, OwT Θ0 L0 Θ1 (hdL o A F R D tp FIN ct KF 0 K) → Q (len FIN) Θ1) :
    ∀ (f : Nat) (last : Int) (Θ1 : Th) (ou1 : List Int) (co1 : Int) (g1 : Nat), elN M last ML.length ≤ f → (last < 0 ∨ (0 ≤ last ∧ last < len ML)) → OwT Θ0 L0 Θ1 (hdL o A F R D tp ou1 ct co1 0 K) → WsV Θ1 o F ML M nm fl → 16 ≤ co1 → len ou1 ≤ co1 → ou1 ++ (dmP M ML.length f last).flatten = FIN → pieC co1 (len ou1) (dmP M ML.length f last) = KF → (g1 : Int) ≤ co1 - c00 → W2_X1_dump_111 ω d G o (if nlF M last ML.length < 0 then -1 else gt ML (nlF M last ML.length)) g1 Θ1 Q := sorry
end DMP

/-! 88.af.lean.txt -/
/-! dump, when it may -/
set_option maxRecDepth 100000
set_option maxHeartbeats 4000000
theorem pieC_le : ∀ (r : List (List Int)) (co m : Int), 16 ≤ co → 0 ≤ m → m ≤ co → pieC co m r ≤ max co (2 * (m + len r.flatten)) := sorry
theorem elN_le {M : Int → MaR} {last : Int} {n : Nat} : elN M last n ≤ n := sorry
section DMM
variable {ω : AO} {d G : Nat} {Θ : Th} {o : Int} {A : Int → Int} {F R D tp ou ML : List Int} {ct co : Int} {K : List It} {M : Int → MaR} {nm : Int → List Int} {fl : Int → Int}
theorem u_X1_dump {Q : Int → Th → Prop} {FIN : List Int} {KF : Int} (hd : 16 ≤ d) (hO : OwS Θ (hdL o A F R D tp ou ct co 0 K)) (hF : FA F A) (hV : WsV Θ o F ML M nm fl) (hmay : dmN M ML.length ≤ 2000) (hc : 16 ≤ co ∧ co ≤ 4000) (hwt : ∀ k, 0 ≤ k → k < len ML → wide (M k).2.1 = 0 ∧ (∀ t, t ∈ (M k).2.2.2.2 → wide t = 0) ∧ (M k).2.2.2.2.length ≤ 100000) (hFI : FIN = (dmP M ML.length ML.length (-1)).flatten) (hKF : KF = pieC co 0 (dmP M ML.length ML.length (-1))) (hFl : len FIN ≤ 2000) (hG : KF - co ≤ (G : Int))
    (hQ : ∀ Θ', OwT Θ (hdL o A F R D tp ou ct co 0 K) Θ' (hdL o A F R D tp FIN ct KF 0 K) → Q (len FIN) Θ') : w2_X1_dump ω d G o Θ Q := sorry
end DMM

/-! 88.ag.lean.txt -/
/-! restore: the lines are read -/
set_option maxRecDepth 100000
set_option maxHeartbeats 4000000
/-- what a line says, in the heap: object, key's place, tags' places; line; values; capacities -/
abbrev TdR : Type := Int × Int × (Int × Int × Int) × List Int × List Int × Int × Int
def tdI (t : TdR) : It := ([t.1, t.2.2.1.1, t.2.2.1.2.1, t.2.2.1.2.2], fun Θ => xo Θ t.1 = (57, [t.2.1, t.2.2.1.1, 1], 0, 0) ∧ ¬ fz Θ t.1 ∧ SoO Θ t.2.2.1.1 t.2.2.1.2.1 t.2.2.1.2.2 (tdR t.2.2.2.1).2 t.2.2.2.2.1 t.2.2.2.2.2.1 t.2.2.2.2.2.2 ∧ Str Θ t.2.1 (tdK t.2.2.2.1))
section TDI
variable {Θ : Th} {t : TdR}
theorem tdI_stb : stb (tdI t) := sorry
theorem tdI_live (h : (tdI t).2 Θ) : live Θ (tdI t).1 := sorry
end TDI
/-- where a line ends; the lines -/
def rsE (l : List Int) (k : Int) : Int := if idx l 10 k < 0 then len l else idx l 10 k
def rsL (l : List Int) : Nat → Int → List (List Int)
  | 0, _ => []
  | f + 1, k => if len l ≤ k then [] else sub l k (rsE l k) :: rsL l f (rsE l k + 1)
theorem rsL_c {l : List Int} {f : Nat} {k : Int} : rsL l (f + 1) k = if len l ≤ k then [] else sub l k (rsE l k) :: rsL l f (rsE l k + 1) := rfl
theorem rsE_in {l : List Int} {k : Int} (h0 : 0 ≤ k) (h1 : k < len l) : k ≤ rsE l k ∧ rsE l k ≤ len l := sorry
/-- what it costs: the lines from a place on, when so many have been read -/
def rsG (l : List Int) (f : Nat) (k : Int) : Int := ((rsL l f k).map (fun x => 9 * len x + 46)).sum
def rsAll (L : List (List Int)) : Bool := L.all (fun x => (tdR x).1)
theorem sum_nn : ∀ {L : List (List Int)}, 0 ≤ (L.map (fun x => 9 * len x + 46)).sum := sorry
section RSO
variable {ω : AO} {d G : Nat} {Θ Θ0 : Th} {o s v5 : Int} {l : List Int} {Lb L0 : List It}
/-- the list of lines: those that have been read lie behind -/
def rsX (v5 : Int) (AC : List TdR) : List It := lsI v5 ((AC.reverse).map (fun t => t.1)) (adK 0 AC.length) :: AC.map tdI
theorem u_rs15 {Q : Int → Th → Prop} {c00 : Int} (hd : 14 ≤ d) (hO0 : OwS Θ0 L0) (hw : wide l = 0) (hl : len l ≤ 2000) (hG : ∀ n : Nat, (n : Int) ≤ c00 + rsG l (l.length + 1) 0 + adK 0 (l.length + 1) → n ≤ G)
    (hQ : ∀ Θ1 AC (g1 : Nat), OwT Θ0 L0 Θ1 (Lb ++ rsX v5 AC) → (AC.reverse).map (fun t => t.2.2.2.1) = rsL l (l.length + 1) 0 → (g1 : Int) ≤ c00 + rsG l (l.length + 1) 0 + adK 0 (rsL l (l.length + 1) 0).length → W2_X1_restore_88 ω d G o v5 0 0 g1 Θ1 Q) :
    ∀ (f : Nat) (k : Int) (AC : List TdR) (Θ1 : Th) (g1 : Nat), len l - k < (f : Int) → (0 ≤ k ∧ k ≤ len l + 1) → (AC.length : Int) ≤ k → AC.length + f ≤ l.length + 1 → OwT Θ0 L0 Θ1 (Lb ++ rsX v5 AC) → Str Θ1 s l → rsAll (rsL l f k) = true → (AC.reverse).map (fun t => t.2.2.2.1) ++ rsL l f k = rsL l (l.length + 1) 0 → (g1 : Int) + rsG l f k ≤ c00 + rsG l (l.length + 1) 0 + adK 0 AC.length → W2_X1_restore_15 ω d G o s v5 k g1 Θ1 Q := sorry
end RSO

/-! 88.ah.lean.txt -/
/-! restore: the tags are set -/
set_option maxRecDepth 100000
set_option maxHeartbeats 4000000
theorem lbK_top {T : List (List Int)} (h : SrtK T) {i : Nat} {w : List Int} (hi : T[i]? = some w) : lbK (T.take i) w = i ∧ isK (T.take i) w = false ∧ insK (T.take i) w = T.take (i + 1) := sorry
/-- tags, capacities, how many lines were known, the cost -/
abbrev RsT : Type := (Int → List (List Int)) × (Int → Int) × (Int → Int) × Int × Int
def rcN (key : Int → List Int) (t1 t2 : Int → Int) (kx : List Int) (m : Nat) : Nat → Int
  | 0 => 0
  | k + 1 => rcN key t1 t2 kx m k + (if key (k : Int) = kx then adK (t1 (k : Int)) m - t1 (k : Int) + (adK (t2 (k : Int)) m - t2 (k : Int)) else 0)
def anK (key : Int → List Int) (kx : List Int) (n : Nat) : Bool := (List.range n).any (fun (k : Nat) => decide (key (k : Int) = kx))
def rsT1 (key : Int → List Int) (t : Int → Int) (kx : List Int) (m : Nat) : Int → Int := fun n => if key n = kx then adK (t n) m else t n
def rsTk (key : Int → List Int) (tk : Int → List (List Int)) (kx : List Int) (T : List (List Int)) : Int → List (List Int) := fun n => if key n = kx then T else tk n
def rsS (N : Nat) (key : Int → List Int) (s : RsT) (x : List Int) : RsT :=
  (rsTk key s.1 (tdK x) (tdR x).2, rsT1 key s.2.1 (tdK x) (tdR x).2.length, rsT1 key s.2.2.1 (tdK x) (tdR x).2.length, s.2.2.2.1 + (if anK key (tdK x) N = true then 1 else 0), s.2.2.2.2 + rcN key s.2.1 s.2.2.1 (tdK x) (tdR x).2.length N)
theorem rcN_mono {key : Int → List Int} {t1 t2 : Int → Int} {kx : List Int} {m : Nat} (h : ∀ n, 0 ≤ n → (t1 n = 0 ∨ 10 ≤ t1 n) ∧ (t2 n = 0 ∨ 10 ≤ t2 n)) : ∀ k n : Nat, k ≤ n → 0 ≤ rcN key t1 t2 kx m k ∧ rcN key t1 t2 kx m k ≤ rcN key t1 t2 kx m n := sorry
section RS2
variable {ω : AO} {d G : Nat} {Θ Θ0 : Th} {L0 : List It} {o v5 : Int} {A : Int → Int} {F R D tp ou ML : List Int} {ct co eo cl : Int} {N : Nat} {ma : Int → Int} {mf : Int → List Int} {pa : Int → Int} {pls : Int → List Int} {pc ta tp1 tq : Int → Int} {tk : Int → List (List Int)} {tv : Int → List Int} {t1 t2 hA : Int → Int} {hr : Int → List Int} {hc : Int → Int} {K : List It} {key : Int → List Int} {AC : List TdR}
/-- the works and the lines -/
def rsM (o : Int) (A : Int → Int) (F R D tp ou : List Int) (ct co eo : Int) (ML : List Int) (cl : Int) (N : Nat) (ma : Int → Int) (mf : Int → List Int) (pa : Int → Int) (pls : Int → List Int) (pc ta tp1 tq : Int → Int) (tk : Int → List (List Int)) (tv : Int → List Int) (t1 t2 hA : Int → Int) (hr : Int → List Int) (hc : Int → Int) (K : List It) (v5 : Int) (AC : List TdR) : List It := msL o A F R D tp ou ct co eo ML cl N ma mf pa pls pc (mtK N ta tp1 tq tk tv t1 t2 hA hr hc K) ++ rsX v5 AC
theorem u_rs173 {Q : Int → Th → Prop} {l4 l5 n : Int} {t : TdR} (hd : 12 ≤ d) (hO0 : OwS Θ0 L0) (h0 : 0 ≤ n) (h1 : n < (N : Int)) (h5 : gt (mf n) 5 = ta n) (ht : t ∈ AC) (hT : (tdR t.2.2.2.1).2.length ≤ 1000) (hc1 : t1 n = 0 ∨ 10 ≤ t1 n) (hc2 : t2 n = 0 ∨ 10 ≤ t2 n) (hcb : t1 n ≤ 100000 ∧ t2 n ≤ 100000) (g0 : Nat) (hG : (g0 : Int) + (adK (t1 n) (tdR t.2.2.2.1).2.length - t1 n + (adK (t2 n) (tdR t.2.2.2.1).2.length - t2 n)) ≤ (G : Int))
    (hQ : ∀ Θ1 vs (g1 : Nat), OwT Θ0 L0 Θ1 (rsM o A F R D tp ou ct co eo ML cl N ma mf pa pls pc ta tp1 tq (fup tk n (tdR t.2.2.2.1).2) (fup tv n vs) (fup t1 n (adK (t1 n) (tdR t.2.2.2.1).2.length)) (fup t2 n (adK (t2 n) (tdR t.2.2.2.1).2.length)) hA hr hc K v5 AC) → (∀ v, v ∈ vs → 0 ≤ v) → (g1 : Int) ≤ (g0 : Int) + (adK (t1 n) (tdR t.2.2.2.1).2.length - t1 n + (adK (t2 n) (tdR t.2.2.2.1).2.length - t2 n)) → W2_X1_restore_114 ω d G o v5 l4 l5 t.1 1 (n + 1) g1 Θ1 Q) :
    ∀ (M i : Nat) (Θ1 : Th) (vs : List Int) (g1 : Nat), (tdR t.2.2.2.1).2.length - i = M → i ≤ (tdR t.2.2.2.1).2.length → OwT Θ0 L0 Θ1 (rsM o A F R D tp ou ct co eo ML cl N ma mf pa pls pc ta tp1 tq (fup tk n ((tdR t.2.2.2.1).2.take i)) (fup tv n vs) (fup t1 n (adK (t1 n) i)) (fup t2 n (adK (t2 n) i)) hA hr hc K v5 AC) → (∀ v, v ∈ vs → 0 ≤ v) → (g1 : Int) ≤ (g0 : Int) + (adK (t1 n) i - t1 n + (adK (t2 n) i - t2 n)) → W2_X1_restore_173 ω d G o v5 l4 l5 t.1 1 n (ma n) (i : Int) g1 Θ1 Q := sorry
end RS2

/-! 88.ai.lean.txt -/
/-! restore: the whole of it, when all lines are good -/
set_option maxRecDepth 100000
set_option maxHeartbeats 4000000
theorem anK_s {key : Int → List Int} {kx : List Int} {i : Nat} : anK key kx (i + 1) = (anK key kx i || decide (key (i : Int) = kx)) := sorry
/-- those ahead of a place are done -/
def upI {α : Type} (i : Int) (f g : Int → α) : Int → α := fun n => if n < i then f n else g n
theorem upI_s {α : Type} {i : Nat} {f g : Int → α} : fup (upI (i : Int) f g) (i : Int) (f (i : Int)) = upI ((i + 1 : Nat) : Int) f g := sorry
theorem upI_n {α : Type} {i : Nat} {f g : Int → α} (h : f (i : Int) = g (i : Int)) : upI (i : Int) f g = upI ((i + 1 : Nat) : Int) f g := sorry
theorem upI_at {α : Type} {i : Nat} {f g : Int → α} : upI (i : Int) f g (i : Int) = g (i : Int) := sorry
section RS3
variable {ω : AO} {d G : Nat} {Θ Θ0 : Th} {L0 : List It} {o v5 : Int} {A : Int → Int} {F R D tp ou ML : List Int} {ct co eo cl : Int} {N : Nat} {ma : Int → Int} {mf : Int → List Int} {pa : Int → Int} {pls : Int → List Int} {pc ta tp1 tq : Int → Int} {tk : Int → List (List Int)} {tv : Int → List Int} {t1 t2 hA : Int → Int} {hr : Int → List Int} {hc : Int → Int} {K : List It} {key : Int → List Int} {AC : List TdR}
theorem u_rs114 {Q : Int → Th → Prop} {l4 l5 : Int} {t : TdR} (hd : 14 ≤ d) (hO0 : OwS Θ0 L0) (hF : FA F A) (hML : len ML = (N : Int) ∧ ∀ n, 0 ≤ n → n < (N : Int) → gt ML n = ma n) (h5 : ∀ n, 0 ≤ n → n < (N : Int) → gt (mf n) 5 = ta n) (hky : ∀ n, 0 ≤ n → n < (N : Int) → Str Θ0 (gt (mf n) 1) (key n)) (ht : t ∈ AC) (hT : (tdR t.2.2.2.1).2.length ≤ 1000) (hcc : ∀ n, 0 ≤ n → (t1 n = 0 ∨ 10 ≤ t1 n) ∧ (t2 n = 0 ∨ 10 ≤ t2 n)) (hcb : ∀ n, 0 ≤ n → n < (N : Int) → t1 n ≤ 100000 ∧ t2 n ≤ 100000) (htv : ∀ n, 0 ≤ n → n < (N : Int) → ∀ v, v ∈ tv n → 0 ≤ v) (g0 : Nat) (hG : (g0 : Int) + rcN key t1 t2 (tdK t.2.2.2.1) (tdR t.2.2.2.1).2.length N ≤ (G : Int))
    (hQ : ∀ Θ1 tv' (g1 : Nat), OwT Θ0 L0 Θ1 (rsM o A F R D tp ou ct co eo ML cl N ma mf pa pls pc ta tp1 tq (rsTk key tk (tdK t.2.2.2.1) (tdR t.2.2.2.1).2) tv' (rsT1 key t1 (tdK t.2.2.2.1) (tdR t.2.2.2.1).2.length) (rsT1 key t2 (tdK t.2.2.2.1) (tdR t.2.2.2.1).2.length) hA hr hc K v5 AC) → (∀ n, 0 ≤ n → n < (N : Int) → ∀ v, v ∈ tv' n → 0 ≤ v) → (g1 : Int) ≤ (g0 : Int) + rcN key t1 t2 (tdK t.2.2.2.1) (tdR t.2.2.2.1).2.length N → W2_X1_restore_239 ω d G o v5 l5 (if anK key (tdK t.2.2.2.1) N = true then 1 else 0) l4 g1 Θ1 Q) :
    ∀ (M i : Nat) (Θ1 : Th) (tvc : Int → List Int) (g1 : Nat), N - i = M → i ≤ N → OwT Θ0 L0 Θ1 (rsM o A F R D tp ou ct co eo ML cl N ma mf pa pls pc ta tp1 tq (upI (i : Int) (rsTk key tk (tdK t.2.2.2.1) (tdR t.2.2.2.1).2) tk) tvc (upI (i : Int) (rsT1 key t1 (tdK t.2.2.2.1) (tdR t.2.2.2.1).2.length) t1) (upI (i : Int) (rsT1 key t2 (tdK t.2.2.2.1) (tdR t.2.2.2.1).2.length) t2) hA hr hc K v5 AC) → (∀ n, 0 ≤ n → n < (N : Int) → ∀ v, v ∈ tvc n → 0 ≤ v) → (g1 : Int) ≤ (g0 : Int) + rcN key t1 t2 (tdK t.2.2.2.1) (tdR t.2.2.2.1).2.length i → W2_X1_restore_114 ω d G o v5 l4 l5 t.1 (if anK key (tdK t.2.2.2.1) i = true then 1 else 0) (i : Int) g1 Θ1 Q := sorry
theorem u_rs88 {Q : Int → Th → Prop} {FINS : RsT} (hd : 14 ≤ d) (hO0 : OwS Θ0 L0) (hF : FA F A) (hML : len ML = (N : Int) ∧ ∀ n, 0 ≤ n → n < (N : Int) → gt ML n = ma n) (h5 : ∀ n, 0 ≤ n → n < (N : Int) → gt (mf n) 5 = ta n) (hky : ∀ n, 0 ≤ n → n < (N : Int) → Str Θ0 (gt (mf n) 1) (key n)) (hT : ∀ t, t ∈ AC → (tdR t.2.2.2.1).2.length ≤ 1000) (hla : AC.length ≤ 5000) (hfcb : ∀ n, 0 ≤ n → FINS.2.1 n ≤ 100000 ∧ FINS.2.2.1 n ≤ 100000) (g0 : Nat) (hG : (g0 : Int) + FINS.2.2.2.2 ≤ (G : Int)) (hfc : FINS.2.2.2.1 < 2147483648)
    (hQ : ∀ Θ1 tv', OwT Θ0 L0 Θ1 (rsM o A F R D tp ou ct co eo ML cl N ma mf pa pls pc ta tp1 tq FINS.1 tv' FINS.2.1 FINS.2.2.1 hA hr hc K v5 AC) → (∀ n, 0 ≤ n → n < (N : Int) → ∀ v, v ∈ tv' n → 0 ≤ v) → Q FINS.2.2.2.1 Θ1) :
    ∀ (M j : Nat) (s : RsT) (Θ1 : Th) (tv1 : Int → List Int) (g1 : Nat), AC.length - j = M → j ≤ AC.length → ((AC.reverse.drop j).map (fun t => t.2.2.2.1)).foldl (rsS N key) s = FINS → (∀ n, 0 ≤ n → (s.2.1 n = 0 ∨ 10 ≤ s.2.1 n) ∧ (s.2.2.1 n = 0 ∨ 10 ≤ s.2.2.1 n)) → 0 ≤ s.2.2.2.1 → OwT Θ0 L0 Θ1 (rsM o A F R D tp ou ct co eo ML cl N ma mf pa pls pc ta tp1 tq s.1 tv1 s.2.1 s.2.2.1 hA hr hc K v5 AC) → (∀ n, 0 ≤ n → n < (N : Int) → ∀ v, v ∈ tv1 n → 0 ≤ v) → (g1 : Int) ≤ (g0 : Int) + s.2.2.2.2 → W2_X1_restore_88 ω d G o v5 s.2.2.2.1 (j : Int) g1 Θ1 Q := sorry
end RS3

/-! 88.aj.lean.txt -/
/-! restore, when all lines are good -/
set_option maxRecDepth 100000
set_option maxHeartbeats 4000000
theorem OwT.lft {Θ Θ1 : Th} {L M X : List It} (h : OwT Θ L Θ1 (M ++ X)) : OwT Θ L Θ1 M := sorry
section RS4
variable {ω : AO} {d G : Nat} {Θ : Th} {o : Int} {A : Int → Int} {F R D tp ou ML : List Int} {ct co eo cl : Int} {N : Nat} {ma : Int → Int} {mf : Int → List Int} {pa : Int → Int} {pls : Int → List Int} {pc ta tp1 tq : Int → Int} {tk : Int → List (List Int)} {tv : Int → List Int} {t1 t2 hA : Int → Int} {hr : Int → List Int} {hc : Int → Int} {K : List It} {key : Int → List Int}
theorem u_X1_restore {Q : Int → Th → Prop} {FINS : RsT} (hd : 16 ≤ d) (hO : OwS Θ (msL o A F R D tp ou ct co eo ML cl N ma mf pa pls pc (mtK N ta tp1 tq tk tv t1 t2 hA hr hc K))) (hF : FA F A) (hML : len ML = (N : Int) ∧ ∀ n, 0 ≤ n → n < (N : Int) → gt ML n = ma n) (h5 : ∀ n, 0 ≤ n → n < (N : Int) → gt (mf n) 5 = ta n) (hky : ∀ n, 0 ≤ n → n < (N : Int) → Str Θ (gt (mf n) 1) (key n)) (htl : len tp ≤ 2000) (htw : wide tp = 0) (hall : rsAll (rsL tp (tp.length + 1) 0) = true) (hT : ∀ x, x ∈ rsL tp (tp.length + 1) 0 → (tdR x).2.length ≤ 1000) (hcc : ∀ n, 0 ≤ n → (t1 n = 0 ∨ 10 ≤ t1 n) ∧ (t2 n = 0 ∨ 10 ≤ t2 n)) (htv : ∀ n, 0 ≤ n → n < (N : Int) → ∀ v, v ∈ tv n → 0 ≤ v)
    (hFI : FINS = (rsL tp (tp.length + 1) 0).foldl (rsS N key) (tk, t1, t2, 0, 0)) (hfcb : ∀ n, 0 ≤ n → FINS.2.1 n ≤ 100000 ∧ FINS.2.2.1 n ≤ 100000) (hfc : FINS.2.2.2.1 < 2147483648) (hln : (rsL tp (tp.length + 1) 0).length ≤ 5000) (hc0 : 0 ≤ FINS.2.2.2.2) (hG : len tp + 6 + rsG tp (tp.length + 1) 0 + adK 0 (tp.length + 1) + FINS.2.2.2.2 ≤ (G : Int))
    (hQ : ∀ Θ' tv', OwT Θ (msL o A F R D tp ou ct co eo ML cl N ma mf pa pls pc (mtK N ta tp1 tq tk tv t1 t2 hA hr hc K)) Θ' (msL o A F R D [] ou ct co eo ML cl N ma mf pa pls pc (mtK N ta tp1 tq FINS.1 tv' FINS.2.1 FINS.2.2.1 hA hr hc K)) → (∀ n, 0 ≤ n → n < (N : Int) → ∀ v, v ∈ tv' n → 0 ≤ v) → Q FINS.2.2.2.1 Θ') : w2_X1_restore ω d G o Θ Q := sorry
end RS4

/-! 88.ak.lean.txt -/
/-! the index by its documents' bytes -/
set_option maxRecDepth 100000
set_option maxHeartbeats 4000000
def WVd (DB : List (List Int)) : Int → Wv := fun k => woF (VSo (ctFd (DB.getD k.toNat [])))
theorem WVd_ap {DB : List (List Int)} {b : List Int} {k : Int} (h0 : 0 ≤ k) (h1 : k < (DB.length : Int)) : WVd (DB ++ [b]) k = WVd DB k := sorry
theorem WVd_at {DB : List (List Int)} {b : List Int} : WVd (DB ++ [b]) (DB.length : Int) = woF (VSo (ctFd b)) := sorry
theorem sgX_cg {V V' : Int → Wv} {D : List Int} (h : ∀ k, k ∈ D → V k = V' k) : sgX V D = sgX V' D := sorry
theorem dcA_S {SG : List SgE} : dcA SG = (absS SG).flatMap (fun x => x.2) := by
  unfold dcA absS
  rw [List.flatMap_map]
theorem IxW.cg {V V' : Int → Wv} {K : Int} {SG : List SgE} (h : IxW V K SG) (hk : ∀ k, k ∈ dcA SG → V k = V' k) : IxW V' K SG := sorry
theorem IxW.up {V : Int → Wv} {K K' : Int} {SG : List SgE} (h : IxW V K SG) (hk : K ≤ K') : IxW V K' SG := sorry
def ixB (bd : List Int) (n : Int) : List Int := if bd.length = 11 then [] else bd ++ [n]
def ixS (f : Int → Bool) (S : List SgD2) (bd : List Int) (n : Int) : List SgD2 := if bd.length = 11 then fuS f S (bd ++ [n]) else S
def dcS2 (S : List SgD2) : List Int := S.flatMap (fun x => x.2)
/-- what holds of the numbers -/
def IxP (DB : List (List Int)) (bd : List Int) (S : List SgD2) : Prop := (dcS2 S ++ bd).Pairwise (fun x y => x < y) ∧ (∀ k, k ∈ dcS2 S ++ bd → 0 ≤ k ∧ k < (DB.length : Int)) ∧ bd.length ≤ 11 ∧ (∀ k : Int, 0 ≤ k → k < (DB.length : Int) → wvOk (WVd DB k)) ∧ DB.length ≤ 3000
theorem srt_len {l : List Int} {n : Nat} (h : l.Pairwise (fun x y => x < y)) (hl : ∀ k, k ∈ l → 0 ≤ k ∧ k < (n : Int)) : l.length ≤ n := sorry
/-- the index in the heap -/
def IxJ (Θ : Th) (a : Int) (rsM : List Int) (DB : List (List Int)) (f : Int → Bool) (n1 pc : Int) (bd : List Int) (S : List SgD2) (K : Int) (L : List It) : Prop :=
  ∃ sg ml cl tk tkc sc on ot bf sp rsC rb c0 c8 c9 SG SP, L = ixL a sg ml cl tk tkc sc on ot bf sp pc n1 f rsM rsC rb c0 (adK 0 rsM.length) (adK 0 rsM.length) c8 c9 SG SP ∧ absS SG = S ∧ IxW (WVd DB) K SG ∧ all2 (IntO Θ) rb bd ∧ DocO Θ rsC bd (WVd DB) ∧ rsM.length = DB.length ∧ rsC.length = DB.length ∧ (0 ≤ c0 ∧ c0 ≤ 100000) ∧ (0 ≤ c8 ∧ c8 ≤ 100 ∧ (c8 = 0 ∨ 10 ≤ c8) ∧ (bd.length : Int) ≤ c8) ∧ (0 ≤ c9 ∧ c9 ≤ 300000) ∧ SP.length + 2 * SG.length ≤ 4 * K.toNat
section IXC
variable {ω : AO} {d G : Nat} {Θ : Th} {a m ct n1 pc K dn : Int} {F rsM bd b : List Int} {DB : List (List Int)} {f : Int → Bool} {S : List SgD2} {L : List It}
theorem IxP.in9 (P : IxP DB bd S) : (dcS2 S).length + bd.length ≤ DB.length := sorry
theorem u_ix_add {Q : Th → Prop} (hd : 18 ≤ d) (hO : OwS Θ (obj m (29, F, 0, 0) :: L)) (J : IxJ Θ a rsM DB f n1 pc bd S K L) (P : IxP DB bd S) (h3 : gt F 3 = ct) (hct : CtO Θ ct b) (hpc : 0 ≤ pc ∧ pc ≤ 1000000000) (hfd : ∀ v, v ∈ ctFd b → 0 ≤ v.2.2.1 ∧ v.2.2.1 ≤ 100000) (hwo : wvOk (woF (VSo (ctFd b)))) (hK : 0 ≤ K ∧ K ≤ 990) (hn : DB.length < 3000)
    (hBT : ∀ D, D.Sublist (dcS2 S ++ (bd ++ [(DB.length : Int)])) → len (encS (sgX (WVd (DB ++ [b])) D)) ≤ 1000000)
    (hG : ∀ c0 c8 c9 (ls : Nat), 0 ≤ c0 → c0 ≤ 100000 → 0 ≤ c8 → c8 ≤ 100 → 0 ≤ c9 → c9 ≤ 300000 → ls ≤ 4 * K.toNat → (adK 0 (DB.length + 1) - adK 0 DB.length) + (adK 0 (DB.length + 1) - adK 0 DB.length) + 1 + (adC c8 (bd.length : Int) - c8) + (if bd.length = 11 then fuC (WVd (DB ++ [b])) f S (bd ++ [(DB.length : Int)]) c0 c9 ls else 0) ≤ (G : Int))
    (hQ : ∀ Θ' L', OwT Θ (obj m (29, F, 0, 0) :: L) Θ' (obj m (29, F.set 9 (DB.length : Int), 0, 0) :: L') → IxJ Θ' a (rsM ++ [m]) (DB ++ [b]) f n1 (pc + pcSm (ctFd b)) (ixB bd (DB.length : Int)) (ixS f S bd (DB.length : Int)) (K + 1) L' → IxP (DB ++ [b]) (ixB bd (DB.length : Int)) (ixS f S bd (DB.length : Int)) → Q Θ') : w2_X7_add ω d G a m Θ Q := sorry
end IXC

/-! 88.al.lean.txt -/
/-! the index: take, flush; the works: flush, segment -/
set_option maxRecDepth 100000
set_option maxHeartbeats 4000000
theorem rmD_sub {k : Int} {D : List Int} : (rmD k D).Sublist D := List.filter_sublist
/-- what a segment says -/
def sgR (WV : Int → Wv) (x : SgD2) (w : Int) : Int := if w = 0 then x.1 else if w = 1 then (x.2.length : Int) else if w = 2 then sgD (sgX WV x.2) else if w = 3 then sgT (sgX WV x.2) else -1
/-- what is seen of the index -/
def SeV (Θ : Th) (a : Int) (rsM : List Int) (DB : List (List Int)) (bd : List Int) (S : List SgD2) (pc : Int) : Prop :=
  ∃ IF rs rb c e c1 e1 c8 e8, xo Θ a = (21, IF, 0, 0) ∧ xo Θ (gt IF 0) = (3, rs, c, e) ∧ rs.length = S.length ∧ xo Θ (gt IF 1) = (3, rsM, c1, e1) ∧ xo Θ (gt IF 8) = (3, rb, c8, e8) ∧ rb.length = bd.length ∧ gt IF 7 = pc ∧
  ∀ (i : Nat) x, S[i]? = some x → ∃ FF ds cd ed, xo Θ (gt rs (i : Int)) = (54, FF, 0, 0) ∧ gt FF 0 = x.1 ∧ xo Θ (gt FF 1) = (3, ds, cd, ed) ∧ ds.length = x.2.length ∧ gt FF 6 = sgD (sgX (WVd DB) x.2) ∧ gt FF 7 = sgT (sgX (WVd DB) x.2)
section IXF
variable {ω : AO} {d G : Nat} {Θ : Th} {a m o l1 l2 n1 pc K dn : Int} {A : Int → Int} {F IF rsM bd R D tp ou : List Int} {ct co eo : Int} {DB : List (List Int)} {f : Int → Bool} {S : List SgD2} {L W1 : List It}
theorem u_ix_take {Q : Th → Prop} (hd : 5 ≤ d) (hO : OwS Θ (obj m (29, F, 0, 0) :: L)) (J : IxJ Θ a rsM DB f n1 pc bd S K L) (P : IxP DB bd S) (h9 : gt F 9 = dn) (hdn : 0 ≤ dn ∧ dn ≤ 1000000) (hn1 : n1 ≤ 1000000) (hG : bmG n1 (dn / 64 + 1) ≤ (G : Int))
    (hQ : ∀ Θ' L', OwT Θ (obj m (29, F, 0, 0) :: L) Θ' (obj m (29, F.set 9 (-1), 0, 0) :: L') → IxJ Θ' a rsM DB (fun j => f j || decide (j = dn)) (bmN n1 (dn / 64 + 1)) pc (rmD dn bd) S K L' → IxP DB (rmD dn bd) S → Q Θ') : w2_X7_take ω d G a m Θ Q := sorry
theorem u_ix_flush {Q : Th → Prop} (hd : 15 ≤ d) (hO : OwS Θ L) (J : IxJ Θ a rsM DB f n1 pc bd S K L) (P : IxP DB bd S) (hK : 0 ≤ K ∧ K ≤ 990)
    (hBT : ∀ D, D.Sublist (dcS2 S ++ bd) → len (encS (sgX (WVd DB) D)) ≤ 1000000)
    (hG : ∀ c0 c9 (ls : Nat), 0 ≤ c0 → c0 ≤ 100000 → 0 ≤ c9 → c9 ≤ 300000 → ls ≤ 4 * K.toNat → fuC (WVd DB) f S bd c0 c9 ls ≤ (G : Int))
    (hQ : ∀ Θ' L', OwT Θ L Θ' L' → IxJ Θ' a rsM DB f n1 pc [] (fuS f S bd) (K + 1) L' → IxP DB [] (fuS f S bd) → Q Θ') : w2_X7_flush ω d G a Θ Q := sorry
theorem IxJ.seg (hO : OwS Θ L) (J : IxJ Θ a rsM DB f n1 pc bd S K L) : SeV Θ a rsM DB bd S pc := sorry
theorem u_X1_segment {Q : Int → Th → Prop} (hd : 6 ≤ d) (ho : xo Θ o = (15, F, 0, 0)) (h7 : gt F 7 = a) (hV : SeV Θ a rsM DB bd S pc) (hl1 : inI l1) (hl2 : inI l2) (hQ : Q (match oA S l1 with | none => -1 | some x => sgR (WVd DB) x l2) Θ) : w2_X1_segment ω d G o l1 l2 Θ Q := sorry
/-- flush -/
theorem u_X1_flush {Q : Int → Th → Prop} (hd : 18 ≤ d) (hO : OwS Θ (W1 ++ L)) (ho : W1[0]? = some (obj o (15, F, 0, 0))) (h7 : gt F 7 = a) (J : IxJ Θ a rsM DB f n1 pc bd S K L) (P : IxP DB bd S) (hK : 0 ≤ K ∧ K ≤ 990)
    (hBT : ∀ D, D.Sublist (dcS2 S ++ bd) → len (encS (sgX (WVd DB) D)) ≤ 1000000)
    (hG : ∀ c0 c9 (ls : Nat), 0 ≤ c0 → c0 ≤ 100000 → 0 ≤ c9 → c9 ≤ 300000 → ls ≤ 4 * K.toNat → fuC (WVd DB) f S bd c0 c9 ls ≤ (G : Int))
    (hQ : ∀ Θ' L', OwT Θ (W1 ++ L) Θ' (W1 ++ L') → IxJ Θ' a rsM DB f n1 pc [] (fuS f S bd) (K + 1) L' → IxP DB [] (fuS f S bd) → Q ((fuS f S bd).length : Int) Θ') : w2_X1_flush ω d G o Θ Q := sorry
end IXF

/-! 88.am.lean.txt -/
/-! a mail comes into the index, or is taken -/
set_option maxRecDepth 100000
set_option maxHeartbeats 4000000
theorem era_p : ∀ {W : List It} {i : Nat} {x y : It}, W[i]? = some x → (W.set i y).Perm (y :: W.eraseIdx i) := sorry
theorem OwT.ix1 {Θ Θ' : Th} {W1 L L' : List It} {i : Nat} {x y : It} (hO : OwS Θ (W1 ++ L)) (hi : W1[i]? = some x) (T : OwS Θ (x :: L) → OwT Θ (x :: L) Θ' (y :: L')) : OwT Θ (W1 ++ L) Θ' (W1.set i y ++ L') := sorry
/-- documents' bytes, taken ones, how many longs, pieces, those not yet in a segment, segments, a count -/
abbrev IxT : Type := List (List Int) × (Int → Bool) × Int × Int × List Int × List SgD2 × Int
def IxK (Θ : Th) (a : Int) (rsM : List Int) (s : IxT) (L : List It) : Prop := IxJ Θ a rsM s.1 s.2.1 s.2.2.1 s.2.2.2.1 s.2.2.2.2.1 s.2.2.2.2.2.1 s.2.2.2.2.2.2 L ∧ IxP s.1 s.2.2.2.2.1 s.2.2.2.2.2.1
def enT (s : IxT) (dn : Int) : IxT := (s.1, fun j => s.2.1 j || decide (j = dn), bmN s.2.2.1 (dn / 64 + 1), s.2.2.2.1, rmD dn s.2.2.2.2.1, s.2.2.2.2.2.1, s.2.2.2.2.2.2)
def enA (s : IxT) (b : List Int) : IxT := (s.1 ++ [b], s.2.1, s.2.2.1, s.2.2.2.1 + pcSm (ctFd b), ixB s.2.2.2.2.1 (s.1.length : Int), ixS s.2.1 s.2.2.2.2.2.1 s.2.2.2.2.1 (s.1.length : Int), s.2.2.2.2.2.2 + 1)
/-- what must hold of the index so that a document can come -/
def IxQ (s : IxT) (b : List Int) : Prop := (0 ≤ s.2.2.2.1 ∧ s.2.2.2.1 ≤ 1000000000) ∧ (∀ v, v ∈ ctFd b → 0 ≤ v.2.2.1 ∧ v.2.2.1 ≤ 100000) ∧ wvOk (woF (VSo (ctFd b))) ∧ (0 ≤ s.2.2.2.2.2.2 ∧ s.2.2.2.2.2.2 ≤ 990) ∧ s.1.length < 3000 ∧ ∀ D, D.Sublist (dcS2 s.2.2.2.2.2.1 ++ (s.2.2.2.2.1 ++ [(s.1.length : Int)])) → len (encS (sgX (WVd (s.1 ++ [b])) D)) ≤ 1000000
/-- what it costs at most -/
def adG (s : IxT) (b : List Int) (c0 c8 c9 : Int) (ls : Nat) : Int := (adK 0 (s.1.length + 1) - adK 0 s.1.length) + (adK 0 (s.1.length + 1) - adK 0 s.1.length) + 1 + (adC c8 (s.2.2.2.2.1.length : Int) - c8) + (if s.2.2.2.2.1.length = 11 then fuC (WVd (s.1 ++ [b])) s.2.1 s.2.2.2.2.2.1 (s.2.2.2.2.1 ++ [(s.1.length : Int)]) c0 c9 ls else 0)
def adGb (s : IxT) (b : List Int) (B : Int) : Prop := ∀ c0 c8 c9 (ls : Nat), 0 ≤ c0 → c0 ≤ 100000 → 0 ≤ c8 → c8 ≤ 100 → 0 ≤ c9 → c9 ≤ 300000 → ls ≤ 4 * s.2.2.2.2.2.2.toNat → adG s b c0 c8 c9 ls ≤ B
section ENT
variable {ω : AO} {d G : Nat} {Θ Θ0 : Th} {L0 : List It} {a m o : Int} {F MF rsM b pls : List Int} {s : IxT} {L W1 : List It} {i : Nat} {pcc : Int}
/-- a document's number goes, a mail is there -/
theorem u_en65 {Q : Th → Prop} {g : Nat} {B : Int} (hd : 20 ≤ d) (hO0 : OwS Θ0 L0) (T0 : OwT Θ0 L0 Θ (W1 ++ L)) (ho : W1[0]? = some (obj o (15, F, 0, 0))) (h7 : gt F 7 = a) (hi : W1[i]? = some (obj m (29, MF, 0, 0))) (hp : ∃ ip : Nat, W1[ip]? = some (lsI (gt MF 4) pls pcc)) (hK : IxK Θ a rsM s L) (hct : CtO Θ (gt MF 3) b) (hq : gt MF 9 < 0 → pls ≠ [] → IxQ s b) (hB : gt MF 9 < 0 → pls ≠ [] → adGb s b B) (hB0 : 0 ≤ B) (hG : (g : Int) + (if gt MF 9 < 0 ∧ pls ≠ [] then B else 0) ≤ (G : Int))
    (hQ0 : ¬ (gt MF 9 < 0 ∧ pls ≠ []) → Q Θ)
    (hQ : gt MF 9 < 0 → pls ≠ [] → ∀ Θ' L', OwT Θ0 L0 Θ' (W1.set i (obj m (29, MF.set 9 (s.1.length : Int), 0, 0)) ++ L') → IxK Θ' a (rsM ++ [m]) (enA s b) L' → Le Θ Θ' → Q Θ') : W2_X1_enter_65 ω d G o m g Θ Q := sorry
/-- a document goes that does not stay -/
theorem u_en45 {Q : Th → Prop} {g : Nat} {B s0 : Int} (hd : 20 ≤ d) (hO0 : OwS Θ0 L0) (T0 : OwT Θ0 L0 Θ (W1 ++ L)) (ho : W1[0]? = some (obj o (15, F, 0, 0))) (hi0 : i ≠ 0) (h7 : gt F 7 = a) (hi : W1[i]? = some (obj m (29, MF, 0, 0))) (h11 : len MF = 11) (hp : ∃ ip : Nat, ip ≠ i ∧ W1[ip]? = some (lsI (gt MF 4) pls pcc)) (hs0 : s0 = 0 ∨ s0 = 1) (hK : IxK Θ a rsM s L) (hct : CtO Θ (gt MF 3) b) (hdn : gt MF 9 ≤ 1000000) (hn1 : 0 ≤ s.2.2.1 ∧ s.2.2.1 ≤ 1000000)
    (hq : pls ≠ [] → (gt MF 9 < 0 → IxQ s b) ∧ (0 ≤ gt MF 9 → s0 = 0 → IxQ (enT s (gt MF 9)) b)) (hB : pls ≠ [] → (gt MF 9 < 0 → adGb s b B) ∧ (0 ≤ gt MF 9 → s0 = 0 → adGb (enT s (gt MF 9)) b B)) (hB0 : 0 ≤ B) (hG : (g : Int) + (if 0 ≤ gt MF 9 ∧ s0 = 0 then bmG s.2.2.1 (gt MF 9 / 64 + 1) else 0) + B ≤ (G : Int))
    (hQ : ∀ Θ' L' (s' : IxT) (dn' : Int) rsM', OwT Θ0 L0 Θ' (W1.set i (obj m (29, MF.set 9 dn', 0, 0)) ++ L') → IxK Θ' a rsM' s' L' → Le Θ Θ' →
      ((¬ (0 ≤ gt MF 9 ∧ s0 = 0) ∧ ¬ (gt MF 9 < 0 ∧ pls ≠ []) ∧ s' = s ∧ dn' = gt MF 9 ∧ rsM' = rsM) ∨ (gt MF 9 < 0 ∧ pls ≠ [] ∧ s' = enA s b ∧ dn' = (s.1.length : Int) ∧ rsM' = rsM ++ [m]) ∨ (0 ≤ gt MF 9 ∧ s0 = 0 ∧ pls = [] ∧ s' = enT s (gt MF 9) ∧ dn' = -1 ∧ rsM' = rsM) ∨ (0 ≤ gt MF 9 ∧ s0 = 0 ∧ pls ≠ [] ∧ s' = enA (enT s (gt MF 9)) b ∧ dn' = (s.1.length : Int) ∧ rsM' = rsM ++ [m])) → Q Θ') : W2_X1_enter_45 ω d G o m s0 g Θ Q := sorry
end ENT

/-! 88.an.lean.txt -/
/-! enter -/
set_option maxRecDepth 100000
set_option maxHeartbeats 4000000
theorem IxJ.le {Θ Θ1 : Th} {a : Int} {rsM : List Int} {DB : List (List Int)} {f : Int → Bool} {n1 pc : Int} {bd : List Int} {S : List SgD2} {K : Int} {L : List It} (h : IxJ Θ a rsM DB f n1 pc bd S K L) (Lq : Le Θ Θ1) : IxJ Θ1 a rsM DB f n1 pc bd S K L := sorry
theorem IxK.le {Θ Θ1 : Th} {a : Int} {rsM : List Int} {s : IxT} {L : List It} (h : IxK Θ a rsM s L) (Lq : Le Θ Θ1) : IxK Θ1 a rsM s L := ⟨h.1.le Lq, h.2⟩
/-- what becomes of the index when a mail is entered: s0 = 1: it stays as it is -/
def ntrR (s : IxT) (b : List Int) (doc s0 : Int) (pls rsM : List Int) (m : Int) (s' : IxT) (dn' : Int) (rsM' : List Int) : Prop :=
  (¬ (0 ≤ doc ∧ s0 = 0) ∧ ¬ (doc < 0 ∧ pls ≠ []) ∧ s' = s ∧ dn' = doc ∧ rsM' = rsM) ∨ (doc < 0 ∧ pls ≠ [] ∧ s' = enA s b ∧ dn' = (s.1.length : Int) ∧ rsM' = rsM ++ [m]) ∨ (0 ≤ doc ∧ s0 = 0 ∧ pls = [] ∧ s' = enT s doc ∧ dn' = -1 ∧ rsM' = rsM) ∨ (0 ≤ doc ∧ s0 = 0 ∧ pls ≠ [] ∧ s' = enA (enT s doc) b ∧ dn' = (s.1.length : Int) ∧ rsM' = rsM ++ [m])
def enZ (pls : List Int) (alt : Int) : Int := if pls ≠ [] ∧ alt = 0 then 1 else 0
section ENM
variable {ω : AO} {d G : Nat} {Θ Θ0 : Th} {L0 : List It} {a m o : Int} {F MF rsM b pls FT Fm : List Int} {s : IxT} {L W1 : List It} {i jm it : Nat} {pcc tl ch arr st sb hm : Int} {kn : List (List Int)} {M : List Int → Int}
theorem u_en26 {Q : Th → Prop} {g : Nat} {B : Int} (hd : 22 ≤ d) (hO0 : OwS Θ0 L0) (T0 : OwT Θ0 L0 Θ (W1 ++ L)) (ho : W1[0]? = some (obj o (15, F, 0, 0))) (hi0 : i ≠ 0) (h7 : gt F 7 = a) (hi : W1[i]? = some (obj m (29, MF, 0, 0))) (h11 : len MF = 11) (hp : ∃ ip : Nat, ip ≠ i ∧ W1[ip]? = some (lsI (gt MF 4) pls pcc)) (hK : IxK Θ a rsM s L) (hct : CtO Θ (gt MF 3) b) (hdn : gt MF 9 ≤ 1000000) (hn1 : 0 ≤ s.2.2.1 ∧ s.2.2.1 ≤ 1000000)
    (hq : pls ≠ [] → (gt MF 9 < 0 → IxQ s b) ∧ (0 ≤ gt MF 9 → enZ pls (gt MF 8) = 0 → IxQ (enT s (gt MF 9)) b)) (hB : pls ≠ [] → (gt MF 9 < 0 → adGb s b B) ∧ (0 ≤ gt MF 9 → enZ pls (gt MF 8) = 0 → adGb (enT s (gt MF 9)) b B)) (hB0 : 0 ≤ B) (hG : (g : Int) + (if 0 ≤ gt MF 9 ∧ enZ pls (gt MF 8) = 0 then bmG s.2.2.1 (gt MF 9 / 64 + 1) else 0) + B ≤ (G : Int))
    (hQ : ∀ Θ' L' (s' : IxT) (dn' : Int) rsM', OwT Θ0 L0 Θ' (W1.set i (obj m (29, MF.set 9 dn', 0, 0)) ++ L') → IxK Θ' a rsM' s' L' → Le Θ Θ' → ntrR s b (gt MF 9) (enZ pls (gt MF 8)) pls rsM m s' dn' rsM' → Q Θ') : W2_X1_enter_26 ω d G o m g Θ Q := sorry
/-- what is to be read anew -/
def enN (MF : List Int) : Prop := gt MF 3 < 0 ∨ gt MF 8 ≠ 0
theorem u_X1_enter {Q : Th → Prop} {B Bc : Int} {kn' : List (List Int)} (hd : 46 ≤ d) (hO : OwS Θ (W1 ++ L)) (ho : W1[0]? = some (obj o (15, F, 0, 0))) (hi0 : i ≠ 0) (hij : i ≠ jm ∧ i ≠ it ∧ it ≠ jm ∧ jm ≠ 0) (h7 : gt F 7 = a) (hi : W1[i]? = some (obj m (29, MF, 0, 0))) (h11 : len MF = 11) (hp : ∃ ip : Nat, ip ≠ i ∧ ip ≠ jm ∧ W1[ip]? = some (lsI (gt MF 4) pls pcc)) (hit : W1[it]? = some (tlI tl ch arr st sb FT)) (hjm : W1[jm]? = some (hmS hm Fm (kn.length : Int) M)) (h4 : gt F 4 = tl) (h8 : gt F 8 = hm) (hV : MpV CtO Θ kn M) (hs : Str Θ (gt MF 2) b) (hw : wide b = 0) (hb : byt b) (hok : ciOk b) (hk : kn.length < 90000) (hciG : 0 ≤ ciG b)
    (hK : IxK Θ a rsM s L) (hct : ¬ enN MF → CtO Θ (gt MF 3) b) (hdn : gt MF 9 ≤ 1000000) (hn1 : 0 ≤ s.2.2.1 ∧ s.2.2.1 ≤ 1000000)
    (hq : pls ≠ [] → (gt MF 9 < 0 → IxQ s b) ∧ (0 ≤ gt MF 9 → enZ pls (gt MF 8) = 0 → IxQ (enT s (gt MF 9)) b)) (hB : pls ≠ [] → (gt MF 9 < 0 → adGb s b B) ∧ (0 ≤ gt MF 9 → enZ pls (gt MF 8) = 0 → adGb (enT s (gt MF 9)) b B)) (hB0 : 0 ≤ B) (hBc : enN MF → ctG kn b ≤ Bc) (hBc0 : 0 ≤ Bc) (hkn : (enN MF → kn' = knU kn b) ∧ (¬ enN MF → kn' = kn)) (hG : Bc + (if 0 ≤ gt MF 9 ∧ enZ pls (gt MF 8) = 0 then bmG s.2.2.1 (gt MF 9 / 64 + 1) else 0) + B ≤ (G : Int))
    (hQ : ∀ Θ' Fm' M' x L' (s' : IxT) (dn' : Int) rsM', OwT Θ (W1 ++ L) Θ' ((W1.set jm (hmS hm Fm' (kn'.length : Int) M')).set i (obj m (29, (MF.set 3 x).set 9 dn', 0, 0)) ++ L') → MpV CtO Θ' kn' M' → CtO Θ' x b → IxK Θ' a rsM' s' L' → ntrR s b (gt MF 9) (enZ pls (gt MF 8)) pls rsM m s' dn' rsM' → Q Θ') : w2_X1_enter ω d G o m Θ Q := sorry
end ENM

/-! 88.ao.lean.txt -/
/-! scan: what mails had -/
set_option maxRecDepth 100000
set_option maxHeartbeats 4000000
/-- the works with mails and files -/
def scL (o : Int) (A : Int → Int) (F R D tp ou : List Int) (ct co eo : Int) (ML : List Int) (cl : Int) (N : Nat) (ma : Int → Int) (mf : Int → List Int) (pa : Int → Int) (pls : Int → List Int) (pc ta tp1 tq : Int → Int) (tk : Int → List (List Int)) (tv : Int → List Int) (t1 t2 hA : Int → Int) (hr : Int → List Int) (hc : Int → Int) (FB : List FiR) (cf : Int) (Z : List It) : List It :=
  msL o A F R D tp ou ct co eo ML cl N ma mf pa pls pc (mtK N ta tp1 tq tk tv t1 t2 hA hr hc (lsI (A 5) (fad FB) cf :: (fiL FB ++ Z)))
section SC3
variable {ω : AO} {d G : Nat} {Θ Θ1 Θ0 : Th} {L0 : List It} {o n : Int} {A : Int → Int} {F R D tp ou ML : List Int} {ct co eo cl : Int} {N : Nat} {ma : Int → Int} {mf : Int → List Int} {pa : Int → Int} {pls : Int → List Int} {pc ta tp1 tq : Int → Int} {tk : Int → List (List Int)} {tv : Int → List Int} {t1 t2 hA : Int → Int} {hr : Int → List Int} {hc : Int → Int} {K : List It} {nm : Int → List Int}
theorem mt_h (h0 : 0 ≤ n) (h1 : n < (N : Int)) : (msL o A F R D tp ou ct co eo ML cl N ma mf pa pls pc (mtK N ta tp1 tq tk tv t1 t2 hA hr hc K))[(((n.toNat + N) + N) + N) + 6]? = some (lsI (hA n) (hr n) (hc n)) := sorry
theorem mt_hS {l : List Int} {c : Int} (h0 : 0 ≤ n) (h1 : n < (N : Int)) : (msL o A F R D tp ou ct co eo ML cl N ma mf pa pls pc (mtK N ta tp1 tq tk tv t1 t2 hA hr hc K)).set ((((n.toNat + N) + N) + N) + 6) (lsI (hA n) l c) = msL o A F R D tp ou ct co eo ML cl N ma mf pa pls pc (mtK N ta tp1 tq tk tv t1 t2 hA (fup hr n l) (fup hc n c) K) := sorry
theorem mt_hls {l : List Int} {c e : Int} (hO : OwS Θ (msL o A F R D tp ou ct co eo ML cl N ma mf pa pls pc (mtK N ta tp1 tq tk tv t1 t2 hA hr hc K))) (h0 : 0 ≤ n) (h1 : n < (N : Int)) (t : Θ1 = uq Θ (hA n) (3, l, c, e)) : OwT Θ (msL o A F R D tp ou ct co eo ML cl N ma mf pa pls pc (mtK N ta tp1 tq tk tv t1 t2 hA hr hc K)) Θ1 (msL o A F R D tp ou ct co eo ML cl N ma mf pa pls pc (mtK N ta tp1 tq tk tv t1 t2 hA (fup hr n l) (fup hc n c) K)) := sorry
/-- the names of one mail's places -/
theorem u_sc125 {Q : Int → Th → Prop} {l1 l2 : Int} {ps : List (Int × Int)} (hd : 10 ≤ d) (hO0 : OwS Θ0 L0) (h0 : 0 ≤ n) (h1 : n < (N : Int)) (hpa : gt (mf n) 4 = pa n) (hha : gt (mf n) 6 = hA n) (hps : all2 (PlO Θ0) (pls n) ps) (hpl : (ps.length : Int) ≤ 100000) (hcc : hc n = 0 ∨ 10 ≤ hc n) (hcb : hc n ≤ 100000) (hfi : ∀ p, p ∈ ps → ∀ Θ1 hr' hc', OwS Θ1 (msL o A F R D tp ou ct co eo ML cl N ma mf pa pls pc (mtK N ta tp1 tq tk tv t1 t2 hA hr' hc' K)) → Le Θ0 Θ1 → ∃ FF, xo Θ1 p.1 = (26, FF, 0, 0) ∧ Str Θ1 (gt FF 0) (nm p.1)) (g0 : Nat) (hG : (g0 : Int) + (adK (hc n) ps.length - hc n) ≤ (G : Int))
    (hQ : ∀ Θ1 hs (g1 : Nat), OwT Θ0 L0 Θ1 (msL o A F R D tp ou ct co eo ML cl N ma mf pa pls pc (mtK N ta tp1 tq tk tv t1 t2 hA (fup hr n hs) (fup hc n (adK (hc n) ps.length)) K)) → all2 (Str Θ1) hs (ps.map (fun p => nm p.1)) → (g1 : Int) ≤ (g0 : Int) + (adK (hc n) ps.length - hc n) → W2_X1_scan_78 ω d G o l1 l2 (n + 1) g1 Θ1 Q) :
    ∀ (M i : Nat) (Θ1 : Th) (hs : List Int) (g1 : Nat), ps.length - i = M → i ≤ ps.length → OwT Θ0 L0 Θ1 (msL o A F R D tp ou ct co eo ML cl N ma mf pa pls pc (mtK N ta tp1 tq tk tv t1 t2 hA (fup hr n hs) (fup hc n (adK (hc n) i)) K)) → all2 (Str Θ1) hs ((ps.take i).map (fun p => nm p.1)) → (g1 : Int) ≤ (g0 : Int) + (adK (hc n) i - hc n) → W2_X1_scan_125 ω d G o l1 l2 n (ma n) (i : Int) g1 Θ1 Q := sorry
/-- what all mails had -/
def whG (hc : Int → Int) (psF : Int → List (Int × Int)) : Nat → Int
  | 0 => 0
  | k + 1 => whG hc psF k + (adK (hc (k : Int)) (psF (k : Int)).length - hc (k : Int))
theorem whG_mono {psF : Int → List (Int × Int)} (h : ∀ n, 0 ≤ n → hc n = 0 ∨ 10 ≤ hc n) : ∀ k n : Nat, k ≤ n → 0 ≤ whG hc psF k ∧ whG hc psF k ≤ whG hc psF n := sorry
end SC3

/-! 88.ap.lean.txt -/
/-! scan: all mails tell what they had -/
set_option maxRecDepth 100000
set_option maxHeartbeats 4000000
theorem upI_0 {α : Type} {f g : Int → α} {n : Int} (h : 0 ≤ n) : upI ((0 : Nat) : Int) f g n = g n := sorry
def mfZ (mf : Int → List Int) : Int → List Int := fun n => ((mf n).set 7 0).set 8 0
theorem mfZ_ne {mf : Int → List Int} {n j : Int} (h0 : 0 ≤ j) (h7 : j ≠ 7) (h8 : j ≠ 8) : gt (mfZ mf n) j = gt (mf n) j := sorry
section SCP
variable {ω : AO} {d G : Nat} {Θ Θ1 Θ0 : Th} {L0 : List It} {o n : Int} {A : Int → Int} {F R D tp ou ML : List Int} {ct co eo cl cf : Int} {N : Nat} {ma : Int → Int} {mf : Int → List Int} {pa : Int → Int} {pls : Int → List Int} {pc ta tp1 tq : Int → Int} {tk : Int → List (List Int)} {tv : Int → List Int} {t1 t2 hA : Int → Int} {hr : Int → List Int} {hc : Int → Int} {FB : List FiR} {Z : List It} {nm : Int → List Int} {psF : Int → List (Int × Int)}
theorem scL_app : scL o A F R D tp ou ct co eo ML cl N ma mf pa pls pc ta tp1 tq tk tv t1 t2 hA hr hc FB cf Z = scL o A F R D tp ou ct co eo ML cl N ma mf pa pls pc ta tp1 tq tk tv t1 t2 hA hr hc FB cf [] ++ Z := sorry
theorem scL_fi {r : FiR} (hO : OwS Θ (scL o A F R D tp ou ct co eo ML cl N ma mf pa pls pc ta tp1 tq tk tv t1 t2 hA hr hc FB cf Z)) (hr2 : r ∈ FB) : xo Θ r.1 = (26, r.2.1, 0, 0) ∧ ¬ fz Θ r.1 := sorry
theorem scL_fl (hO : OwS Θ (scL o A F R D tp ou ct co eo ML cl N ma mf pa pls pc ta tp1 tq tk tv t1 t2 hA hr hc FB cf Z)) : ∃ e, xo Θ (A 5) = (3, fad FB, cf, e) ∧ ¬ fz Θ (A 5) := sorry
/-- what must hold of mails and files for a scan -/
def ScH (Θ : Th) (N : Nat) (mf : Int → List Int) (pa ta hA : Int → Int) (pls : Int → List Int) (psF : Int → List (Int × Int)) (nm : Int → List Int) (FB : List FiR) : Prop :=
  (∀ n, 0 ≤ n → n < (N : Int) → len (mf n) = 11 ∧ gt (mf n) 4 = pa n ∧ gt (mf n) 5 = ta n ∧ gt (mf n) 6 = hA n ∧ all2 (PlO Θ) (pls n) (psF n) ∧ ((psF n).length : Int) ≤ 100000 ∧ ∀ p, p ∈ psF n → ∃ r, r ∈ FB ∧ r.1 = p.1 ∧ r.2.2.1 = nm p.1) ∧ (∀ r, r ∈ FB → FiZ Θ r)
theorem u_scn78 {Q : Int → Th → Prop} {l1 l2 : Int} (hd : 12 ≤ d) (hO0 : OwS Θ0 L0) (hF : FA F A) (hML : len ML = (N : Int) ∧ ∀ n, 0 ≤ n → n < (N : Int) → gt ML n = ma n) (hH : ScH Θ0 N mf pa ta hA pls psF nm FB) (hcc : ∀ n, 0 ≤ n → hc n = 0 ∨ 10 ≤ hc n) (hcb : ∀ n, 0 ≤ n → n < (N : Int) → hc n ≤ 100000) (g0 : Nat) (hG : (g0 : Int) + 1 + whG hc psF N ≤ (G : Int))
    (hQ : ∀ Θ1 v hr1 (g1 : Nat), OwT Θ0 L0 Θ1 (scL o A F R D tp ou ct co eo ML cl N ma (mfZ mf) pa pls pc ta tp1 tq tk tv t1 t2 hA hr1 (fun n => adK (hc n) (psF n).length) FB cf (lsI v [] 0 :: Z)) → (∀ n, 0 ≤ n → n < (N : Int) → all2 (Str Θ1) (hr1 n) ((psF n).map (fun p => nm p.1))) → (g1 : Int) ≤ (g0 : Int) + 1 + whG hc psF N → W2_X1_scan_197 ω d G o l1 l2 v ((FB.length : Int) - 1) g1 Θ1 Q) :
    ∀ (M i : Nat) (Θ1 : Th) (hr1 : Int → List Int) (g1 : Nat), N - i = M → i ≤ N → OwT Θ0 L0 Θ1 (scL o A F R D tp ou ct co eo ML cl N ma (upI (i : Int) (mfZ mf) mf) pa pls pc ta tp1 tq tk tv t1 t2 hA hr1 (upI (i : Int) (fun n => adK (hc n) (psF n).length) hc) FB cf Z) → (∀ n, 0 ≤ n → n < (i : Int) → all2 (Str Θ1) (hr1 n) ((psF n).map (fun p => nm p.1))) → (g1 : Int) ≤ (g0 : Int) + whG hc psF i → W2_X1_scan_78 ω d G o l1 l2 (i : Int) g1 Θ1 Q := sorry
end SCP

/-! 88.aq.lean.txt -/
/-! scan: how files are -/
set_option maxRecDepth 100000
set_option maxHeartbeats 4000000
/-- files that were looked at, what is told, fresh ones, places, fields of mails -/
abbrev S4T : Type := List FiR × List Int × List FiR × (Int → List (Int × Int)) × (Int → List Int)
def fgM (fa : Int) (psF : Int → List (Int × Int)) (mf : Int → List Int) : Int → List Int := fun n => if (psF n).any (fun p => !neF fa p) = true then (mf n).set 7 1 else mf n
def s4F (s : S4T) (r : FiR) : S4T :=
  if lbS r.2.2.1 = 0 then (r :: s.1, s.2) else
    (if hisF r = 0 then s.1 else r :: s.1, s.2.1.set (hisF r).toNat (gt s.2.1 (hisF r) + 1), if hisF r = 1 ∨ hisF r = 2 then s.2.2.1 ++ [r] else s.2.2.1, if hisF r < 2 then (fun n => (s.2.2.2.1 n).filter (neF r.1)) else s.2.2.2.1, if hisF r < 2 then fgM r.1 s.2.2.2.1 s.2.2.2.2 else s.2.2.2.2)
theorem hisF_in {r : FiR} : 0 ≤ hisF r ∧ hisF r ≤ 3 := sorry
theorem fgM_len {fa : Int} {psF : Int → List (Int × Int)} {mf : Int → List Int} {n : Int} : len (fgM fa psF mf n) = len (mf n) := by
  unfold fgM
  split
  · exact len_set
  · rfl
theorem fgM_ne {fa : Int} {psF : Int → List (Int × Int)} {mf : Int → List Int} {n j : Int} (h0 : 0 ≤ j) (h7 : j ≠ 7) : gt (fgM fa psF mf n) j = gt (mf n) j := sorry
section SC4
variable {ω : AO} {d G : Nat} {Θ Θ1 Θ0 : Th} {L0 : List It} {o v : Int} {A : Int → Int} {F R D tp ou ML : List Int} {ct co eo cl cf : Int} {N : Nat} {ma : Int → Int} {mf : Int → List Int} {pa : Int → Int} {pls : Int → List Int} {pc ta tp1 tq : Int → Int} {tk : Int → List (List Int)} {tv : Int → List Int} {t1 t2 hA : Int → Int} {hr : Int → List Int} {hc : Int → Int} {FB : List FiR} {Z : List It} {nm : Int → List Int} {psF : Int → List (Int × Int)}
theorem scL_pre : scL o A F R D tp ou ct co eo ML cl N ma mf pa pls pc ta tp1 tq tk tv t1 t2 hA hr hc FB cf Z = msL o A F R D tp ou ct co eo ML cl N ma mf pa pls pc (mtK N ta tp1 tq tk tv t1 t2 hA hr hc []) ++ (lsI (A 5) (fad FB) cf :: (fiL FB ++ Z)) := sorry
/-- a file goes out of the row -/
theorem scL_rm {k : Nat} {r : FiR} {e : Int} (hO : OwS Θ (scL o A F R D tp ou ct co eo ML cl N ma mf pa pls pc ta tp1 tq tk tv t1 t2 hA hr hc FB cf Z)) (hk : FB[k]? = some r) (t : Θ1 = uq Θ (A 5) (3, del (fad FB) (k : Int), cf, e)) : OwT Θ (scL o A F R D tp ou ct co eo ML cl N ma mf pa pls pc ta tp1 tq tk tv t1 t2 hA hr hc FB cf Z) Θ1 (scL o A F R D tp ou ct co eo ML cl N ma mf pa pls pc ta tp1 tq tk tv t1 t2 hA hr hc (FB.take k ++ FB.drop (k + 1)) cf Z) := sorry
theorem scL_Z {x y : It} {Z' : List It} (T : OwS Θ (x :: Z) → OwT Θ (x :: Z) Θ1 (y :: Z')) (hO : OwS Θ (scL o A F R D tp ou ct co eo ML cl N ma mf pa pls pc ta tp1 tq tk tv t1 t2 hA hr hc FB cf (x :: Z))) : OwT Θ (scL o A F R D tp ou ct co eo ML cl N ma mf pa pls pc ta tp1 tq tk tv t1 t2 hA hr hc FB cf (x :: Z)) Θ1 (scL o A F R D tp ou ct co eo ML cl N ma mf pa pls pc ta tp1 tq tk tv t1 t2 hA hr hc FB cf (y :: Z')) := sorry
theorem scL_z0 {x : It} (hO : OwS Θ (scL o A F R D tp ou ct co eo ML cl N ma mf pa pls pc ta tp1 tq tk tv t1 t2 hA hr hc FB cf (x :: Z))) : x.2 Θ := sorry
/-- the fresh ones in the heap -/
def frL (v : Int) (fr : List FiR) : It := lsI v (fad fr) (adK 0 fr.length)
theorem u_sc197 {Q : Int → Th → Prop} {l1 l2 : Int} {FINS : S4T} (hd : 12 ≤ d) (hO0 : OwS Θ0 L0) (hF : FA F A) (hML : len ML = (N : Int) ∧ ∀ n, 0 ≤ n → n < (N : Int) → gt ML n = ma n) (hFl : (FB.length : Int) ≤ 100000) (hZ0 : ∀ r, r ∈ FB → FiZ Θ0 r) (hnn : ∀ r, r ∈ FB → -1 ≤ r.1) (g0 : Nat) (hG : (g0 : Int) + adK 0 FINS.2.2.1.length ≤ (G : Int)) (hfl : FINS.2.2.1.length ≤ 100000)
    (hQ : ∀ Θ1 pls' (g1 : Nat), OwT Θ0 L0 Θ1 (scL o A F R FINS.2.1 tp ou ct co eo ML cl N ma FINS.2.2.2.2 pa pls' pc ta tp1 tq tk tv t1 t2 hA hr hc FINS.1 cf (frL v FINS.2.2.1 :: Z)) → ScH Θ1 N FINS.2.2.2.2 pa ta hA pls' FINS.2.2.2.1 nm FINS.1 → (g1 : Int) ≤ (g0 : Int) + adK 0 FINS.2.2.1.length → W2_X1_scan_311 ω d G o l1 l2 v 0 ((FINS.2.2.1.length : Int) - 1) g1 Θ1 Q) :
    ∀ (k : Nat) (s : S4T) (Θ1 : Th) (pls1 : Int → List Int) (g1 : Nat), k ≤ FB.length → ((FB.take k).reverse).foldl s4F s = FINS → len s.2.1 = 9 → (∀ j, 0 ≤ j → j < 9 → 0 ≤ gt s.2.1 j ∧ gt s.2.1 j ≤ (FB.length : Int) - (k : Int)) → s.1.length + k ≤ FB.length → (∀ r, r ∈ s.1 → r ∈ FB) → s.2.2.1.length + k ≤ FB.length → OwT Θ0 L0 Θ1 (scL o A F R s.2.1 tp ou ct co eo ML cl N ma s.2.2.2.2 pa pls1 pc ta tp1 tq tk tv t1 t2 hA hr hc (FB.take k ++ s.1) cf (frL v s.2.2.1 :: Z)) → ScH Θ1 N s.2.2.2.2 pa ta hA pls1 s.2.2.2.1 nm (FB.take k ++ s.1) → (g1 : Int) ≤ (g0 : Int) + adK 0 s.2.2.1.length → W2_X1_scan_197 ω d G o l1 l2 v ((k : Int) - 1) g1 Θ1 Q := sorry
end SC4

/-! 88.ar.lean.txt -/
/-! mails as a whole: what is known of them; a mail for a message, a place for a mail -/
set_option maxRecDepth 100000
set_option maxHeartbeats 4000000
/-- mails by number: how many; key, bytes, places, lost, altered, document, capacity of places; capacity of the row; told; cost; tags and their values, capacities; what was had, capacity; contents that are known; whose content is stale -/
abbrev MxT : Type := Nat × (Int → List Int) × (Int → List Int) × (Int → List (Int × Int)) × (Int → Int) × (Int → Int) × (Int → Int) × (Int → Int) × Int × List Int × Int × (Int → List (List Int)) × (Int → List Int) × (Int → Int) × (Int → Int) × (Int → List (List Int)) × (Int → Int) × List (List Int) × (Int → Int)
abbrev mxN (s : MxT) : Nat := s.1
abbrev mxK (s : MxT) : Int → List Int := s.2.1
abbrev mxB (s : MxT) : Int → List Int := s.2.2.1
abbrev mxP (s : MxT) : Int → List (Int × Int) := s.2.2.2.1
abbrev mxL (s : MxT) : Int → Int := s.2.2.2.2.1
abbrev mxA (s : MxT) : Int → Int := s.2.2.2.2.2.1
abbrev mxD (s : MxT) : Int → Int := s.2.2.2.2.2.2.1
abbrev mxC (s : MxT) : Int → Int := s.2.2.2.2.2.2.2.1
abbrev mxc (s : MxT) : Int := s.2.2.2.2.2.2.2.2.1
abbrev mxT (s : MxT) : List Int := s.2.2.2.2.2.2.2.2.2.1
abbrev mxG (s : MxT) : Int := s.2.2.2.2.2.2.2.2.2.2.1
abbrev mxX (s : MxT) : Int → List (List Int) := s.2.2.2.2.2.2.2.2.2.2.2.1
abbrev mxV (s : MxT) : Int → List Int := s.2.2.2.2.2.2.2.2.2.2.2.2.1
abbrev mx1 (s : MxT) : Int → Int := s.2.2.2.2.2.2.2.2.2.2.2.2.2.1
abbrev mx2 (s : MxT) : Int → Int := s.2.2.2.2.2.2.2.2.2.2.2.2.2.2.1
abbrev mxH (s : MxT) : Int → List (List Int) := s.2.2.2.2.2.2.2.2.2.2.2.2.2.2.2.1
abbrev mxh (s : MxT) : Int → Int := s.2.2.2.2.2.2.2.2.2.2.2.2.2.2.2.2.1
abbrev mxY (s : MxT) : List (List Int) := s.2.2.2.2.2.2.2.2.2.2.2.2.2.2.2.2.2.1
abbrev mxS (s : MxT) : Int → Int := s.2.2.2.2.2.2.2.2.2.2.2.2.2.2.2.2.2.2
/-- one mail -/
def MxO (Θ : Th) (n : Int) (k b : List Int) (ps : List (Int × Int)) (lo al sl dc : Int) (hd kc : List (List Int)) (MF : List Int) (pa ta hA : Int) (pls hr : List Int) : Prop :=
  len MF = 11 ∧ gt MF 0 = n ∧ Str Θ (gt MF 1) k ∧ Str Θ (gt MF 2) b ∧ gt MF 4 = pa ∧ gt MF 5 = ta ∧ gt MF 6 = hA ∧ gt MF 7 = lo ∧ gt MF 8 = al ∧ gt MF 9 = dc ∧ ((sl = 0 → CtO Θ (gt MF 3) b ∧ b ∈ kc) ∧ (sl ≠ 0 → gt MF 3 < 0 ∨ al ≠ 0)) ∧ all2 (PlO Θ) pls ps ∧ all2 (Str Θ) hr hd
theorem MxO.le {Θ Θ1 : Th} {n : Int} {k b : List Int} {ps : List (Int × Int)} {lo al sl dc : Int} {hd kc : List (List Int)} {MF : List Int} {pa ta hA : Int} {pls hr : List Int} (h : MxO Θ n k b ps lo al sl dc hd kc MF pa ta hA pls hr) (L : Le Θ Θ1) : MxO Θ1 n k b ps lo al sl dc hd kc MF pa ta hA pls hr := sorry
def MxF (Θ : Th) (s : MxT) (ML : List Int) (ma : Int → Int) (mf : Int → List Int) (pa ta hA : Int → Int) (pls hr : Int → List Int) : Prop :=
  (len ML = (mxN s : Int) ∧ ∀ n, 0 ≤ n → n < (mxN s : Int) → gt ML n = ma n) ∧ ∀ n, 0 ≤ n → n < (mxN s : Int) → MxO Θ n (mxK s n) (mxB s n) (mxP s n) (mxL s n) (mxA s n) (mxS s n) (mxD s n) (mxH s n) (mxY s) (mf n) (pa n) (ta n) (hA n) (pls n) (hr n)
theorem MxF.le {Θ Θ1 : Th} {s : MxT} {ML : List Int} {ma : Int → Int} {mf : Int → List Int} {pa ta hA : Int → Int} {pls hr : Int → List Int} (h : MxF Θ s ML ma mf pa ta hA pls hr) (L : Le Θ Θ1) : MxF Θ1 s ML ma mf pa ta hA pls hr := ⟨h.1, fun n n0 n1 => (h.2 n n0 n1).le L⟩
/-- the works with the mails s, and K -/
def MxW (Θ : Th) (o : Int) (A : Int → Int) (F R tp ou : List Int) (ct co eo : Int) (s : MxT) (K : List It) (W : List It) (ma : Int → Int) : Prop :=
  ∃ (ML : List Int) (mf : Int → List Int) (pa : Int → Int) (pls : Int → List Int) (ta tp1 tq hA : Int → Int) (hr : Int → List Int), W = msL o A F R (mxT s) tp ou ct co eo ML (mxc s) (mxN s) ma mf pa pls (mxC s) (mtK (mxN s) ta tp1 tq (mxX s) (mxV s) (mx1 s) (mx2 s) hA hr (mxh s) K) ∧ MxF Θ s ML ma mf pa ta hA pls hr
/-- the mail of the same bytes; one of the same key that is not there -/
def mxI1 (s : MxT) (k b : List Int) : Int := ffI (mo1 (mxK s) (mxB s) k b) (mxN s)
def mxI2 (s : MxT) (k : List Int) : Int := if k = [] then -1 else ffI (mo2 (mxK s) (fun n => decide (mxP s n ≠ [])) k) (mxN s)
def mxI (s : MxT) (k b : List Int) : Int := if 0 ≤ mxI1 s k b then mxI1 s k b else if 0 ≤ mxI2 s k then mxI2 s k else (mxN s : Int)
def mxNew (s : MxT) (k b : List Int) : MxT := (mxN s + 1, fup (mxK s) (mxN s : Int) k, fup (mxB s) (mxN s : Int) b, fup (mxP s) (mxN s : Int) [], fup (mxL s) (mxN s : Int) 0, fup (mxA s) (mxN s : Int) 0, fup (mxD s) (mxN s : Int) (-1), fup (mxC s) (mxN s : Int) 0, adC (mxc s) (mxN s : Int), (mxT s).set 4 (gt (mxT s) 4 + 1), mxG s + (9 + (adC (mxc s) (mxN s : Int) - mxc s)), fup (mxX s) (mxN s : Int) [], fup (mxV s) (mxN s : Int) [], fup (mx1 s) (mxN s : Int) 0, fup (mx2 s) (mxN s : Int) 0, fup (mxH s) (mxN s : Int) [], fup (mxh s) (mxN s : Int) 0, mxY s, fup (mxS s) (mxN s : Int) 1)
def mxAlt (s : MxT) (i : Int) (b : List Int) : MxT := (mxN s, mxK s, fup (mxB s) i b, mxP s, mxL s, fup (mxA s) i 1, mxD s, mxC s, mxc s, (mxT s).set 5 (gt (mxT s) 5 + 1), mxG s, mxX s, mxV s, mx1 s, mx2 s, mxH s, mxh s, mxY s, fup (mxS s) i 1)
def mxOf (s : MxT) (k b : List Int) : MxT := if 0 ≤ mxI1 s k b then s else if 0 ≤ mxI2 s k then mxAlt s (mxI2 s k) b else mxNew s k b
def mxAd (nm : Int → List Int) (s : MxT) (i f m : Int) : MxT := (mxN s, mxK s, mxB s, fup (mxP s) i (adP nm (mxP s i) f m), mxL s, mxA s, mxD s, fup (mxC s) i (adC (mxC s i) ((mxP s i).length : Int)), mxc s, mxT s, mxG s + (1 + (adC (mxC s i) ((mxP s i).length : Int) - mxC s i)), mxX s, mxV s, mx1 s, mx2 s, mxH s, mxh s, mxY s, mxS s)
theorem ffI_ge {p : Int → Bool} {n : Nat} : -1 ≤ ffI p n ∧ ffI p n < (n : Int) := sorry
theorem mxI_in {s : MxT} {k b : List Int} : 0 ≤ mxI s k b ∧ mxI s k b < (mxN (mxOf s k b) : Int) := sorry
section MXW
variable {ω : AO} {d G : Nat} {Θ Θ1 Θ0 : Th} {L0 K W : List It} {o : Int} {A : Int → Int} {F R tp ou : List Int} {ct co eo : Int} {s : MxT} {ma : Int → Int} {nm : Int → List Int}
theorem u_mx_of {Q : Int → Th → Prop} {ms : Int} {l : List Int} (hd : 8 ≤ d) (hO0 : OwS Θ0 L0) (T : OwT Θ0 L0 Θ1 W) (hV : MxW Θ1 o A F R tp ou ct co eo s K W ma) (hF : FA F A) (hN : (mxN s : Int) < 1000000) (hm : MsO Θ1 ms l) (hcl : adC (mxc s) (mxN s : Int) ≤ 60000000 ∧ mxc s ≤ adC (mxc s) (mxN s : Int)) (hD : len (mxT s) = 9) (hD4 : 0 ≤ gt (mxT s) 4 ∧ gt (mxT s) 4 < 1000000) (hD5 : 0 ≤ gt (mxT s) 5 ∧ gt (mxT s) 5 < 1000000) (hG : mxG (mxOf s (keF l) l) - mxG s ≤ (G : Int))
    (hQ : ∀ Θ' W' ma', OwT Θ0 L0 Θ' W' → Le Θ1 Θ' → MxW Θ' o A F R tp ou ct co eo (mxOf s (keF l) l) K W' ma' → (∀ n, n < (mxN s : Int) → ma' n = ma n) → Q (ma' (mxI s (keF l) l)) Θ') : w2_X1_mailOf ω d G o ms Θ1 Q := sorry
/-- a place more -/
theorem u_mx_add {Q : Th → Prop} {i f m : Int} (hd : 8 ≤ d) (hO0 : OwS Θ0 L0) (T : OwT Θ0 L0 Θ1 W) (hV : MxW Θ1 o A F R tp ou ct co eo s K W ma) (i0 : 0 ≤ i) (i1 : i < (mxN s : Int)) (hnm : ∀ p, p ∈ mxP s i → NmO Θ1 p.1 (nm p.1)) (hf : NmO Θ1 f (nm f)) (hm : inI m) (hln : ((mxP s i).length : Int) ≤ 1000000) (hc : adC (mxC s i) ((mxP s i).length : Int) ≤ 60000000 ∧ mxC s i ≤ adC (mxC s i) ((mxP s i).length : Int)) (hG : mxG (mxAd nm s i f m) - mxG s ≤ (G : Int))
    (hQ : ∀ Θ' W', OwT Θ0 L0 Θ' W' → Le Θ1 Θ' → MxW Θ' o A F R tp ou ct co eo (mxAd nm s i f m) K W' ma → Q Θ') : w2_X16_add ω d G (ma i) f m Θ1 Q := sorry
end MXW

/-! 88.as.lean.txt -/
/-! scan: the messages of one file -/
set_option maxRecDepth 100000
set_option maxHeartbeats 4000000
/-- all within bounds -/
def MxB (s : MxT) (B : Int) : Prop := (mxN s : Int) ≤ B ∧ (0 ≤ mxc s ∧ mxc s ≤ 2 * B + 10) ∧ len (mxT s) = 9 ∧ (∀ j, 0 ≤ j → j < 9 → 0 ≤ gt (mxT s) j ∧ gt (mxT s) j ≤ B) ∧ ∀ n, 0 ≤ n → n < (mxN s : Int) → ((mxP s n).length : Int) ≤ B ∧ 0 ≤ mxC s n ∧ mxC s n ≤ 2 * B + 10
theorem MxB.tl {D : List Int} {B k : Int} (h0 : 0 ≤ B) (hl : len D = 9) (h : ∀ j, 0 ≤ j → j < 9 → 0 ≤ gt D j ∧ gt D j ≤ B) (k0 : 0 ≤ k) (k1 : k < 9) : ∀ j, 0 ≤ j → j < 9 → 0 ≤ gt (D.set k.toNat (gt D k + 1)) j ∧ gt (D.set k.toNat (gt D k + 1)) j ≤ B + 1 := sorry
theorem MxB.of {s : MxT} {B : Int} {k b : List Int} (h : MxB s B) (h0 : 0 ≤ B) : MxB (mxOf s k b) (B + 1) ∧ mxG s ≤ mxG (mxOf s k b) ∧ (mxN s : Int) ≤ (mxN (mxOf s k b) : Int) := sorry
theorem adP_len {nm : Int → List Int} {ps : List (Int × Int)} {f n : Int} : (adP nm ps f n).length = ps.length + 1 := sorry
theorem adP_mem {nm : Int → List Int} {ps : List (Int × Int)} {f n : Int} {p : Int × Int} (h : p ∈ adP nm ps f n) : p = (f, n) ∨ p ∈ ps := sorry
theorem MxB.ad {s : MxT} {B i f m : Int} {nm : Int → List Int} (h : MxB s B) (h0 : 0 ≤ B) (i0 : 0 ≤ i) (i1 : i < (mxN s : Int)) : MxB (mxAd nm s i f m) (B + 1) ∧ mxG s ≤ mxG (mxAd nm s i f m) := sorry
/-- places lie in files that there are -/
def MxP (s : MxT) (FB : List FiR) (nm : Int → List Int) : Prop := ∀ n, 0 ≤ n → n < (mxN s : Int) → ∀ p, p ∈ mxP s n → ∃ r, r ∈ FB ∧ r.1 = p.1 ∧ r.2.2.1 = nm p.1
theorem MxP.of {s : MxT} {FB : List FiR} {nm : Int → List Int} {k b : List Int} (h : MxP s FB nm) : MxP (mxOf s k b) FB nm := sorry
theorem MxP.ad {s : MxT} {FB : List FiR} {nm : Int → List Int} {i f m : Int} (h : MxP s FB nm) (hf : ∃ r, r ∈ FB ∧ r.1 = f ∧ r.2.2.1 = nm f) : MxP (mxAd nm s i f m) FB nm := sorry
/-- the messages of one file, each to its mail -/
def mxMs (nm : Int → List Int) (f : Int) : List (List Int) → Int → MxT → MxT
  | [], _, s => s
  | l :: r, m, s => mxMs nm f r (m + 1) (mxAd nm (mxOf s (keF l) l) (mxI s (keF l) l) f m)
theorem mxMs_c {nm : Int → List Int} {f m : Int} {l : List Int} {r : List (List Int)} {s : MxT} : mxMs nm f (l :: r) m s = mxMs nm f r (m + 1) (mxAd nm (mxOf s (keF l) l) (mxI s (keF l) l) f m) := rfl
theorem mxMs_ge {nm : Int → List Int} {f : Int} : ∀ (ls : List (List Int)) (m : Int) (s : MxT) (B : Int), MxB s B → 0 ≤ B → mxG s ≤ mxG (mxMs nm f ls m s) := sorry
section SC5
variable {ω : AO} {d G : Nat} {Θ Θ1 Θ0 : Th} {L0 K K' W : List It} {o : Int} {A : Int → Int} {F R tp ou : List Int} {ct co eo : Int} {s : MxT} {ma : Int → Int} {nm : Int → List Int} {FB : List FiR}
theorem mxK_app {D ML : List Int} {cl : Int} {N : Nat} {mf : Int → List Int} {pa : Int → Int} {pls : Int → List Int} {pc ta tp1 tq : Int → Int} {tk : Int → List (List Int)} {tv : Int → List Int} {t1 t2 hA : Int → Int} {hr : Int → List Int} {hc : Int → Int} : msL o A F R D tp ou ct co eo ML cl N ma mf pa pls pc (mtK N ta tp1 tq tk tv t1 t2 hA hr hc K) = msL o A F R D tp ou ct co eo ML cl N ma mf pa pls pc (mtK N ta tp1 tq tk tv t1 t2 hA hr hc []) ++ K := sorry
/-- what is behind the mails alters -/
theorem mxK_st (hO : OwS Θ W) (hV : MxW Θ o A F R tp ou ct co eo s K W ma) (hT : OwS Θ K → OwT Θ K Θ1 K') : ∃ W', OwT Θ W Θ1 W' ∧ MxW Θ1 o A F R tp ou ct co eo s K' W' ma := sorry
theorem mxK_mem {x : It} (hV : MxW Θ o A F R tp ou ct co eo s K W ma) (h : x ∈ K) : x ∈ W := sorry
theorem mxW_le (hV : MxW Θ o A F R tp ou ct co eo s K W ma) (L : Le Θ Θ1) : MxW Θ1 o A F R tp ou ct co eo s K W ma := sorry
theorem mxW_o (hO : OwS Θ W) (hV : MxW Θ o A F R tp ou ct co eo s K W ma) : xo Θ o = (15, F, 0, 0) ∧ ¬ fz Θ o := sorry
theorem mxW_m {i : Int} (hO : OwS Θ W) (hV : MxW Θ o A F R tp ou ct co eo s K W ma) (i0 : 0 ≤ i) (i1 : i < (mxN s : Int)) : ∃ MF, xo Θ (ma i) = (29, MF, 0, 0) ∧ ¬ fz Θ (ma i) := sorry
theorem mx_nm {r : FiR} {w : List Int} {f : Int} (hO : OwS Θ1 W) (hV : MxW Θ1 o A F R tp ou ct co eo s K W ma) (hK : obj r.1 (26, r.2.1, 0, 0) ∈ K) (hz : FiZ Θ1 r) (e1 : r.1 = f) (e2 : r.2.2.1 = w) : NmO Θ1 f w := sorry
theorem u_sc358 {Q : Int → Th → Prop} {l1 l2 v l4 l5 x f B0 Nm : Int} {m0 : Int → Int} {ls : List (List Int)} {S s0 : MxT} (hd : 12 ≤ d) (hO0 : OwS Θ0 L0) (hF : FA F A) (hK : ∀ r, r ∈ FB → obj r.1 (26, r.2.1, 0, 0) ∈ K) (hz : ∀ r, r ∈ FB → FiZ Θ0 r) (hx : LxO MsO Θ0 x ls) (hf : ∃ r, r ∈ FB ∧ r.1 = f ∧ r.2.2.1 = nm f) (hB0 : 0 ≤ B0) (hB1 : B0 + 2 * (ls.length : Int) ≤ 400000) (g0 : Nat) (hG : (g0 : Int) + (mxG S - mxG s0) ≤ (G : Int))
    (hQ : ∀ Θ1 W ma (g1 : Nat), OwT Θ0 L0 Θ1 W → MxW Θ1 o A F R tp ou ct co eo S K W ma → MxB S (B0 + 2 * (ls.length : Int)) → MxP S FB nm → (Nm ≤ (mxN S : Int) ∧ ∀ n, n < Nm → ma n = m0 n) → (g1 : Int) ≤ (g0 : Int) + (mxG S - mxG s0) → W2_X1_scan_311 ω d G o l1 l2 v (l4 + (ls.length : Int)) (l5 + (-1)) g1 Θ1 Q) :
    ∀ (M i : Nat) (Θ1 : Th) (W : List It) (ma : Int → Int) (s : MxT) (g1 : Nat), ls.length - i = M → i ≤ ls.length → mxMs nm f (ls.drop i) (i : Int) s = S → MxB s (B0 + 2 * (i : Int)) → MxP s FB nm → OwT Θ0 L0 Θ1 W → MxW Θ1 o A F R tp ou ct co eo s K W ma → (Nm ≤ (mxN s : Int) ∧ ∀ n, n < Nm → ma n = m0 n) → (g1 : Int) ≤ (g0 : Int) + (mxG s - mxG s0) → W2_X1_scan_358 ω d G o l1 l2 v l4 l5 f (i : Int) x g1 Θ1 Q := sorry
end SC5

/-! 88.at.lean.txt -/
/-! scan: the messages of all files that are new or changed -/
set_option maxRecDepth 100000
set_option maxHeartbeats 4000000
/-- a file that was read -/
def seF (r : FiR) : FiR := (r.1, (r.2.1.set 4 (gt r.2.1 2)).set 5 (gt r.2.1 3), r.2.2.1, r.2.2.2.1, some r.2.2.2.1)
def seM (X : List Int) (r : FiR) : FiR := if r.1 ∈ X then seF r else r
theorem seF_ne {r : FiR} {j : Int} (h0 : 0 ≤ j) (h4 : j ≠ 4) (h5 : j ≠ 5) : gt (seF r).2.1 j = gt r.2.1 j := sorry
theorem seF_2 {r : FiR} : seF (seF r) = seF r := sorry
theorem seM_F {X : List Int} {r : FiR} : seF (seM X r) = seF r := by
  unfold seM
  split
  · exact seF_2
  · rfl
theorem seM_1 {X : List Int} {r : FiR} : (seM X r).1 = r.1 := by unfold seM; split <;> rfl
theorem seM_n {X : List Int} {r : FiR} : (seM X r).2.2.1 = r.2.2.1 := by unfold seM; split <;> rfl
theorem seM_b {X : List Int} {r : FiR} : (seM X r).2.2.2.1 = r.2.2.2.1 := by unfold seM; split <;> rfl
theorem seF_z {Θ : Th} {r : FiR} (h : FiZ Θ r) : FiZ Θ (seF r) := sorry
theorem seM_z {Θ : Th} {X : List Int} {r : FiR} (h : FiZ Θ r) : FiZ Θ (seM X r) := by
  unfold seM
  split
  · exact seF_z h
  · exact h
theorem seM_fad {X : List Int} {FB : List FiR} : fad (FB.map (seM X)) = fad FB := sorry
theorem MxP.map {s : MxT} {X : List Int} {FB : List FiR} {nm : Int → List Int} : MxP s (FB.map (seM X)) nm ↔ MxP s FB nm := sorry
/-- files, fresh ones, the rest -/
def scK (A : Int → Int) (FB : List FiR) (cf v : Int) (fr : List FiR) (Y : List It) : List It := lsI (A 5) (fad FB) cf :: (fiL FB ++ (frL v fr :: Y))
theorem mpL_pre {P Z : List It} {jb js : Nat} {hb hs : Int} {Fb Fs : List Int} {kb ks : List (List Int)} {Mb Ms : List Int → Int} : P ++ mpL Z jb js hb hs Fb Fs kb ks Mb Ms = mpL (P ++ Z) (P.length + jb) (P.length + js) hb hs Fb Fs kb ks Mb Ms := by
  unfold mpL
  rw [apx_set, apx_set]
theorem scK_y {A : Int → Int} {FB : List FiR} {cf v : Int} {fr : List FiR} {Y : List It} : scK A FB cf v fr Y = (lsI (A 5) (fad FB) cf :: (fiL FB ++ [frL v fr])) ++ Y := sorry
/-- one file was read -/
theorem scK_se {Θ Θ1 Θ2 : Th} {A : Int → Int} {FB : List FiR} {cf v : Int} {fr : List FiR} {Y : List It} {X : List Int} {r : FiR} (hO : OwS Θ (scK A (FB.map (seM X)) cf v fr Y)) (hnd : (fad FB).Nodup) (hr : r ∈ FB) (t1 : Θ1 = pf Θ r.1 4 (gt (seM X r).2.1 2)) (t2 : Θ2 = pf Θ1 r.1 5 (gt (seM X r).2.1 3)) : OwT Θ (scK A (FB.map (seM X)) cf v fr Y) Θ2 (scK A (FB.map (seM (r.1 :: X))) cf v fr Y) := sorry
/-- what was read: mails; messages known and their cost; how many -/
abbrev S5T : Type := MxT × (List (List Int) × List (List Int) × Int) × Int
def s5F (nm : Int → List Int) (t : S5T) (r : FiR) : S5T := (mxMs nm r.1 (mesF (lbS r.2.2.1) r.2.2.2.1) 0 t.1, moS t.2.1 r, t.2.2 + ((mesF (lbS r.2.2.1) r.2.2.2.1).length : Int))
theorem mxMs_B {nm : Int → List Int} {f : Int} : ∀ (ls : List (List Int)) (m : Int) (s : MxT) (B : Int), MxB s B → 0 ≤ B → MxB (mxMs nm f ls m s) (B + 2 * (ls.length : Int)) := sorry
theorem moS_c {kb ks : List (List Int)} {c : Int} {r : FiR} : (moS (kb, ks, c) r).1 = (moS (kb, ks, 0) r).1 ∧ (moS (kb, ks, c) r).2.1 = (moS (kb, ks, 0) r).2.1 ∧ (moS (kb, ks, c) r).2.2 = c + (moS (kb, ks, 0) r).2.2 ∧ 0 ≤ (moS (kb, ks, 0) r).2.2 := sorry
theorem s5F_ge {nm : Int → List Int} : ∀ (l : List FiR) (t : S5T) (B : Int), MxB t.1 B → 0 ≤ B → mxG t.1 ≤ mxG (l.foldl (s5F nm) t).1 ∧ t.2.1.2.2 ≤ (l.foldl (s5F nm) t).2.1.2.2 ∧ t.2.2 ≤ (l.foldl (s5F nm) t).2.2 := sorry
section SC5
variable {ω : AO} {d G : Nat} {Θ Θ1 Θ0 : Th} {L0 K K' W : List It} {o : Int} {A : Int → Int} {F R tp ou : List Int} {ct co eo : Int} {s : MxT} {ma : Int → Int} {nm : Int → List Int} {FB : List FiR}
theorem mxW_ap (hV : MxW Θ o A F R tp ou ct co eo s K W ma) : ∃ P, W = P ++ K ∧ P[0]? = some (obj o (15, F, 0, 0)) ∧ ∀ Θ' K', Le Θ Θ' → MxW Θ' o A F R tp ou ct co eo s K' (P ++ K') ma := sorry
theorem u_sc311 {Q : Int → Th → Prop} {l1 l2 v cf B0 Nm : Int} {m0 : Int → Int} {fr : List FiR} {FIN : S5T} {t0 : S5T} {Z : List It} {jb js : Nat} {hb hs : Int} (hd : 24 ≤ d) (hO0 : OwS Θ0 L0) (hF : FA F A) (h9 : gt F 9 = hb) (h10 : gt F 10 = hs) (hne : jb ≠ js) (hjb : jb < Z.length) (hjs : js < Z.length) (hnd : (fad FB).Nodup) (hfr : ∀ r, r ∈ fr → r ∈ FB) (hz : ∀ r, r ∈ FB → FiZ Θ0 r ∧ r.2.2.1 = nm r.1 ∧ wide r.2.2.2.1 = 0 ∧ len r.2.2.2.1 ≤ 10000) (hB0 : 0 ≤ B0) (hB1 : B0 + 2 * FIN.2.2 ≤ 400000) (hfl : fr.length ≤ 40000) (hkl : t0.2.1.1.length ≤ 40000 ∧ t0.2.1.2.1.length ≤ 40000) (h00 : 0 ≤ t0.2.2) (g0 : Nat) (hG : (g0 : Int) + (mxG FIN.1 - mxG t0.1) + (FIN.2.1.2.2 - t0.2.1.2.2) ≤ (G : Int))
    (hQ : ∀ Θ1 W ma Fb Fs Mb Ms X (g1 : Nat), OwT Θ0 L0 Θ1 W → MxW Θ1 o A F R tp ou ct co eo FIN.1 (scK A (FB.map (seM X)) cf v fr (mpL Z jb js hb hs Fb Fs FIN.2.1.1 FIN.2.1.2.1 Mb Ms)) W ma → (∀ a, a ∈ X ↔ a ∈ fad fr) → MpV (lsM 2) Θ1 FIN.2.1.1 Mb → MpV (lsM 1) Θ1 FIN.2.1.2.1 Ms → MxB FIN.1 (B0 + 2 * FIN.2.2) → MxP FIN.1 FB nm → (Nm ≤ (mxN FIN.1 : Int) ∧ ∀ n, n < Nm → ma n = m0 n) → (g1 : Int) ≤ (g0 : Int) + (mxG FIN.1 - mxG t0.1) + (FIN.2.1.2.2 - t0.2.1.2.2) → W2_X1_scan_411 ω d G o l1 l2 FIN.2.2 0 g1 Θ1 Q) :
    ∀ (k : Nat) (Θ1 : Th) (W : List It) (ma : Int → Int) (t : S5T) (X : List Int) (Fb Fs : List Int) (Mb Ms : List Int → Int) (g1 : Nat), k ≤ fr.length → ((fr.take k).reverse).foldl (s5F nm) t = FIN → (∀ a, a ∈ X ↔ a ∈ (fad fr).drop k) → OwT Θ0 L0 Θ1 W → MxW Θ1 o A F R tp ou ct co eo t.1 (scK A (FB.map (seM X)) cf v fr (mpL Z jb js hb hs Fb Fs t.2.1.1 t.2.1.2.1 Mb Ms)) W ma → MpV (lsM 2) Θ1 t.2.1.1 Mb → MpV (lsM 1) Θ1 t.2.1.2.1 Ms → MxB t.1 (B0 + 2 * t.2.2) → MxP t.1 FB nm → (Nm ≤ (mxN t.1 : Int) ∧ ∀ n, n < Nm → ma n = m0 n) → 0 ≤ t.2.2 → t.2.1.1.length + k ≤ t0.2.1.1.length + fr.length → t.2.1.2.1.length + k ≤ t0.2.1.2.1.length + fr.length → (g1 : Int) ≤ (g0 : Int) + (mxG t.1 - mxG t0.1) + (t.2.1.2.2 - t0.2.1.2.2) → W2_X1_scan_311 ω d G o l1 l2 v t.2.2 ((k : Int) - 1) g1 Θ1 Q := sorry
end SC5

/-! 88.au.lean.txt -/
/-! scan: what is told of the mails that were there before -/
set_option maxRecDepth 100000
set_option maxHeartbeats 4000000
/-- other counts -/
def mxTw (s : MxT) (T : List Int) : MxT := (mxN s, mxK s, mxB s, mxP s, mxL s, mxA s, mxD s, mxC s, mxc s, T, mxG s, mxX s, mxV s, mx1 s, mx2 s, mxH s, mxh s, mxY s, mxS s)
def tlO (T : List Int) (k : Int) : List Int := T.set k.toNat (gt T k + 1)
def s6a (nm : Int → List Int) (s : MxT) (T : List Int) (i : Int) : List Int := if mxL s i = 0 then T else if mxP s i = [] then tlO T 7 else if ewB nm (mxP s i) (mxH s i) = true then tlO T 6 else T
def s6F (nm : Int → List Int) (was : Int → Bool) (s : MxT) (T : List Int) (i : Int) : List Int := if was i = true then s6a nm s T i else if mxP s i = [] then s6a nm s T i else tlO (s6a nm s T i) 8
def s6N (nm : Int → List Int) (was : Int → Bool) (s : MxT) : Nat → List Int
  | 0 => mxT s
  | i + 1 => s6F nm was s (s6N nm was s i) (i : Int)
theorem s6N_s {nm : Int → List Int} {was : Int → Bool} {s : MxT} {i : Nat} : s6N nm was s (i + 1) = s6F nm was s (s6N nm was s i) (i : Int) := rfl
def tldB (T : List Int) (B : Int) : Prop := len T = 9 ∧ ∀ j, 0 ≤ j → j < 9 → 0 ≤ gt T j ∧ gt T j ≤ B
theorem tldB.up {T : List Int} {B k : Int} (h : tldB T B) (k0 : 0 ≤ k) (k1 : k < 9) : tldB (tlO T k) (B + 1) := sorry
theorem tldB.mn {T : List Int} {B B' : Int} (h : tldB T B) (hb : B ≤ B') : tldB T B' := sorry
/-- the works with the mails s and the counts D -/
def MxX (Θ : Th) (o : Int) (A : Int → Int) (F R D tp ou : List Int) (ct co eo : Int) (s : MxT) (K : List It) (W : List It) (ma : Int → Int) : Prop :=
  ∃ (ML : List Int) (mf : Int → List Int) (pa : Int → Int) (pls : Int → List Int) (ta tp1 tq hA : Int → Int) (hr : Int → List Int), W = msL o A F R D tp ou ct co eo ML (mxc s) (mxN s) ma mf pa pls (mxC s) (mtK (mxN s) ta tp1 tq (mxX s) (mxV s) (mx1 s) (mx2 s) hA hr (mxh s) K) ∧ MxF Θ s ML ma mf pa ta hA pls hr
section SC6
variable {ω : AO} {d G : Nat} {Θ Θ1 Θ0 : Th} {L0 K K' W : List It} {o : Int} {A : Int → Int} {F R D tp ou : List Int} {ct co eo : Int} {s : MxT} {ma : Int → Int} {nm : Int → List Int} {FB : List FiR}
theorem mxX_of (hV : MxW Θ o A F R tp ou ct co eo s K W ma) : MxX Θ o A F R (mxT s) tp ou ct co eo s K W ma := hV
theorem mxF_tw {Dn ML : List Int} {mf : Int → List Int} {pa ta hA : Int → Int} {pls hr : Int → List Int} (h : MxF Θ s ML ma mf pa ta hA pls hr) : MxF Θ (mxTw s Dn) ML ma mf pa ta hA pls hr := sorry
theorem mxX_K {x : It} (hV : MxX Θ o A F R D tp ou ct co eo s K W ma) (h : x ∈ K) : x ∈ W := sorry
theorem mxX_o (hO : OwS Θ W) (hV : MxX Θ o A F R D tp ou ct co eo s K W ma) : xo Θ o = (15, F, 0, 0) ∧ ¬ fz Θ o := sorry
theorem mxX_nm {r : FiR} {w : List Int} {f : Int} (hO : OwS Θ1 W) (hV : MxX Θ1 o A F R D tp ou ct co eo s K W ma) (hK : obj r.1 (26, r.2.1, 0, 0) ∈ K) (hz : FiZ Θ1 r) (e1 : r.1 = f) (e2 : r.2.2.1 = w) : NmO Θ1 f w := sorry
theorem mxX_D (hO : OwS Θ W) (hV : MxX Θ o A F R D tp ou ct co eo s K W ma) : xo Θ (A 1) = (104, D, 0, 0) ∧ ¬ fz Θ (A 1) := sorry
theorem mxX_l (hO : OwS Θ W) (hV : MxX Θ o A F R D tp ou ct co eo s K W ma) : ∃ ML e, xo Θ (A 6) = (3, ML, mxc s, e) ∧ ¬ fz Θ (A 6) ∧ len ML = (mxN s : Int) ∧ ∀ n, 0 ≤ n → n < (mxN s : Int) → gt ML n = ma n := sorry
theorem mxX_mm {i : Int} (hO : OwS Θ W) (hV : MxX Θ o A F R D tp ou ct co eo s K W ma) (i0 : 0 ≤ i) (i1 : i < (mxN s : Int)) : ∃ MF pls hr, xo Θ (ma i) = (29, MF, 0, 0) ∧ ¬ fz Θ (ma i) ∧ len MF = 11 ∧ Str Θ (gt MF 1) (mxK s i) ∧ Str Θ (gt MF 2) (mxB s i) ∧ gt MF 7 = mxL s i ∧ gt MF 8 = mxA s i ∧ gt MF 9 = mxD s i ∧ (∃ e, xo Θ (gt MF 4) = (3, pls, mxC s i, e)) ∧ all2 (PlO Θ) pls (mxP s i) ∧ (∃ e, xo Θ (gt MF 6) = (3, hr, mxh s i, e)) ∧ all2 (Str Θ) hr (mxH s i) ∧ ((mxS s i = 0 → CtO Θ (gt MF 3) (mxB s i) ∧ mxB s i ∈ mxY s) ∧ (mxS s i ≠ 0 → gt MF 3 < 0 ∨ mxA s i ≠ 0)) := sorry
/-- one count more -/
theorem mxT_st {k v : Int} (hO : OwS Θ W) (hV : MxX Θ o A F R D tp ou ct co eo s K W ma) (t : Θ1 = pf Θ (A 1) k v) : ∃ W', OwT Θ W Θ1 W' ∧ MxX Θ1 o A F R (D.set k.toNat v) tp ou ct co eo s K W' ma := sorry
theorem u_sc411 {Q : Int → Th → Prop} {l4 l2 bc bn TB : Int} {was : Int → Bool} {N0 g : Nat} (hd : 8 ≤ d) (hO0 : OwS Θ0 L0) (hF : FA F A) (hN : N0 ≤ mxN s) (hN2 : (N0 : Int) ≤ 100000) (hK : ∀ r, r ∈ FB → obj r.1 (26, r.2.1, 0, 0) ∈ K) (hz : ∀ r, r ∈ FB → FiZ Θ0 r) (hP : MxP s FB nm) (hbt : btI l2 bc bn was ∈ K) (hTB : 0 ≤ TB ∧ TB ≤ 1000000) (hG : g ≤ G)
    (hQ : ∀ Θ1 W, OwT Θ0 L0 Θ1 W → MxX Θ1 o A F R (s6N nm was s N0) tp ou ct co eo s K W ma → tldB (s6N nm was s N0) (TB + 2 * (N0 : Int)) → W2_X1_scan_525 ω d G o (N0 : Int) l2 l4 0 g Θ1 Q) :
    ∀ (M i : Nat) (Θ1 : Th) (W : List It), N0 - i = M → i ≤ N0 → OwT Θ0 L0 Θ1 W → MxX Θ1 o A F R (s6N nm was s i) tp ou ct co eo s K W ma → tldB (s6N nm was s i) (TB + 2 * (i : Int)) → W2_X1_scan_411 ω d G o (N0 : Int) l2 l4 (i : Int) g Θ1 Q := sorry
end SC6

/-! 88.av.lean.txt -/
/-! scan: all mails are entered -/
set_option maxRecDepth 100000
set_option maxHeartbeats 4000000
/-- mails told by their parts -/
def MxQ (Θ : Th) (N : Nat) (key by_ : Int → List Int) (ps : Int → List (Int × Int)) (lo al sl dc : Int → Int) (hd : Int → List (List Int)) (kc : List (List Int)) (ML : List Int) (ma : Int → Int) (mf : Int → List Int) (pa ta hA : Int → Int) (pls hr : Int → List Int) : Prop :=
  (len ML = (N : Int) ∧ ∀ n, 0 ≤ n → n < (N : Int) → gt ML n = ma n) ∧ ∀ n, 0 ≤ n → n < (N : Int) → MxO Θ n (key n) (by_ n) (ps n) (lo n) (al n) (sl n) (dc n) (hd n) kc (mf n) (pa n) (ta n) (hA n) (pls n) (hr n)
/-- the works with the mails s, the counts D, whose content is stale sl, the documents' numbers dc, the known contents kc -/
def Mx7 (Θ : Th) (o : Int) (A : Int → Int) (F R D tp ou : List Int) (ct co eo : Int) (s : MxT) (sl dc : Int → Int) (kc : List (List Int)) (K : List It) (W : List It) (ma : Int → Int) : Prop :=
  ∃ (ML : List Int) (mf : Int → List Int) (pa : Int → Int) (pls : Int → List Int) (ta tp1 tq hA : Int → Int) (hr : Int → List Int), W = msL o A F R D tp ou ct co eo ML (mxc s) (mxN s) ma mf pa pls (mxC s) (mtK (mxN s) ta tp1 tq (mxX s) (mxV s) (mx1 s) (mx2 s) hA hr (mxh s) K) ∧ MxQ Θ (mxN s) (mxK s) (mxB s) (mxP s) (mxL s) (mxA s) sl dc (mxH s) kc ML ma mf pa ta hA pls hr
/-- what becomes of the index: as a function -/
def ntW (doc z : Int) (e : Bool) : Bool := !e && (decide (doc < 0) || (decide (0 ≤ doc) && decide (z = 0)))
def ntF (x : IxT) (b : List Int) (doc z : Int) (e : Bool) : IxT × Int :=
  if 0 ≤ doc ∧ z = 0 then (if e = true then (enT x doc, -1) else (enA (enT x doc) b, (x.1.length : Int))) else if doc < 0 ∧ e = false then (enA x b, (x.1.length : Int)) else (x, doc)
theorem ntF_of {x x' : IxT} {b : List Int} {doc z m dn' : Int} {pls rsM rsM' : List Int} {e : Bool} (he : e = true ↔ pls = []) (h : ntrR x b doc z pls rsM m x' dn' rsM') : x' = (ntF x b doc z e).1 ∧ dn' = (ntF x b doc z e).2 ∧ rsM' = if ntW doc z e = true then rsM ++ [m] else rsM := sorry
/-- the index, documents' numbers, known contents, documents' mails, cost, whether threads are stale -/
abbrev S7T : Type := IxT × (Int → Int) × List (List Int) × List Int × Int × Int
def ps0 (s : MxT) (i : Int) : Bool := decide (mxP s i = [])
def en7 (s : MxT) (i : Int) : Int := if mxP s i ≠ [] ∧ mxA s i = 0 then 1 else 0
def st7 (was : Int → Bool) (N0 : Nat) (s : MxT) (i : Int) : Bool := decide ((N0 : Int) ≤ i) || (decide (mxA s i ≠ 0) || decide ((if was i = true then (1 : Int) else 0) ≠ (if mxP s i = [] then 0 else 1)))
def co7 (x : IxT) (kn : List (List Int)) (b : List Int) (doc z B : Int) : Int := ctG kn b + (if 0 ≤ doc ∧ z = 0 then bmG x.2.2.1 (doc / 64 + 1) else 0) + B
def s7F (was : Int → Bool) (N0 : Nat) (s : MxT) (Bf : Int → Int) (t : S7T) (i : Int) : S7T :=
  ((ntF t.1 (mxB s i) (t.2.1 i) (en7 s i) (ps0 s i)).1, fup t.2.1 i (ntF t.1 (mxB s i) (t.2.1 i) (en7 s i) (ps0 s i)).2, knU t.2.2.1 (mxB s i), if ntW (t.2.1 i) (en7 s i) (ps0 s i) = true then t.2.2.2.1 ++ [i] else t.2.2.2.1, t.2.2.2.2.1 + co7 t.1 t.2.2.1 (mxB s i) (t.2.1 i) (en7 s i) (Bf i), if st7 was N0 s i = true then 1 else t.2.2.2.2.2)
def s7N (was : Int → Bool) (N0 : Nat) (s : MxT) (Bf : Int → Int) (t0 : S7T) : Nat → S7T
  | 0 => t0
  | i + 1 => s7F was N0 s Bf (s7N was N0 s Bf t0 i) (i : Int)
theorem s7N_s {was : Int → Bool} {N0 : Nat} {s : MxT} {Bf : Int → Int} {t0 : S7T} {i : Nat} : s7N was N0 s Bf t0 (i + 1) = s7F was N0 s Bf (s7N was N0 s Bf t0 i) (i : Int) := rfl
/-- what is asked where mail i is entered -/
def E7 (s : MxT) (Bf : Int → Int) (t : S7T) (i : Int) : Prop :=
  wide (mxB s i) = 0 ∧ byt (mxB s i) ∧ ciOk (mxB s i) ∧ 0 ≤ ciG (mxB s i) ∧ t.2.2.1.length < 90000 ∧ t.2.1 i ≤ 1000000 ∧ (0 ≤ t.1.2.2.1 ∧ t.1.2.2.1 ≤ 1000000) ∧ 0 ≤ Bf i ∧ (mxP s i ≠ [] → (t.2.1 i < 0 → IxQ t.1 (mxB s i) ∧ adGb t.1 (mxB s i) (Bf i)) ∧ (0 ≤ t.2.1 i → en7 s i = 0 → IxQ (enT t.1 (t.2.1 i)) (mxB s i) ∧ adGb (enT t.1 (t.2.1 i)) (mxB s i) (Bf i)))
theorem co7_nn {x : IxT} {kn : List (List Int)} {b : List Int} {doc z B : Int} (h1 : 0 ≤ ciG b) (h2 : 0 ≤ x.2.2.1) (h3 : 0 ≤ B) : 0 ≤ ctG kn b ∧ 0 ≤ co7 x kn b doc z B := sorry
def F7 (F : List Int) (th : Int) : List Int := if th = 1 then F.set 20 0 else F
theorem F7_A {F : List Int} {A : Int → Int} {th : Int} (h : FA F A) : FA (F7 F th) A := sorry
section SC7
variable {ω : AO} {d G : Nat} {Θ Θ1 Θ0 : Th} {L0 K K' W L : List It} {o a l2 bc bn l4 hm tl ch arr st sb : Int} {A : Int → Int} {F FT R D tp ou : List Int} {ct co eo : Int} {s : MxT} {ma sl dc : Int → Int} {kc : List (List Int)} {i : Int} {jk tk bj : Nat} {was : Int → Bool} {N0 : Nat} {Bf : Int → Int} {t0 : S7T}
theorem mx7_ap (hV : Mx7 Θ o A F R D tp ou ct co eo s sl dc kc K W ma) : ∃ P, W = P ++ K ∧ P[0]? = some (obj o (15, F, 0, 0)) ∧ (∃ ML, P[5]? = some (lsI (A 6) ML (mxc s)) ∧ len ML = (mxN s : Int) ∧ ∀ n, 0 ≤ n → n < (mxN s : Int) → gt ML n = ma n) ∧
    (∀ Θ', Le Θ Θ' → ∀ K', Mx7 Θ' o A F R D tp ou ct co eo s sl dc kc K' (P ++ K') ma) ∧ (∀ Θ', Le Θ Θ' → ∀ K' F', Mx7 Θ' o A F' R D tp ou ct co eo s sl dc kc K' ((P.set 0 (obj o (15, F', 0, 0))) ++ K') ma) ∧
    ∀ i, 0 ≤ i → i < (mxN s : Int) → ∃ MF pls ip, P[i.toNat + 6]? = some (obj (ma i) (29, MF, 0, 0)) ∧ ip ≠ i.toNat + 6 ∧ P[ip]? = some (lsI (gt MF 4) pls (mxC s i)) ∧ len MF = 11 ∧ Str Θ (gt MF 2) (mxB s i) ∧ gt MF 8 = mxA s i ∧ gt MF 9 = dc i ∧ (pls = [] ↔ mxP s i = []) ∧ (gt MF 3 < 0 ∨ mxA s i ≠ 0 ∨ (CtO Θ (gt MF 3) (mxB s i) ∧ mxB s i ∈ kc)) ∧
      ∀ Θ' x dn' kc' K', Le Θ Θ' → CtO Θ' x (mxB s i) → mxB s i ∈ kc' → (∀ b, b ∈ kc → b ∈ kc') → Mx7 Θ' o A F R D tp ou ct co eo s (fup sl i 0) (fup dc i dn') kc' K' ((P.set (i.toNat + 6) (obj (ma i) (29, (MF.set 3 x).set 9 dn', 0, 0))) ++ K') ma := sorry
theorem u_sc525 {Q : Int → Th → Prop} (hd : 50 ≤ d) (hO0 : OwS Θ0 L0) (hF : FA F A) (h7 : gt F 7 = a) (h4 : gt F 4 = tl) (h8 : gt F 8 = hm) (hjk : jk < K.length) (htk : K[tk]? = some (tlI tl ch arr st sb FT)) (hbj : K[bj]? = some (btI l2 bc bn was)) (hne : tk ≠ jk ∧ bj ≠ jk) (hN0 : N0 ≤ mxN s) (hN : (mxN s : Int) ≤ 100000) (hl4 : inI l4) (hE : ∀ i : Nat, i < mxN s → E7 s Bf (s7N was N0 s Bf t0 i) (i : Int)) (g0 : Nat) (hG : (g0 : Int) + ((s7N was N0 s Bf t0 (mxN s)).2.2.2.2.1 - t0.2.2.2.2.1) ≤ (G : Int))
    (hQ : ∀ Θ1 W L Fm M (t : S7T) (g1 : Nat), t = s7N was N0 s Bf t0 (mxN s) → OwT Θ0 L0 Θ1 (W ++ L) → Mx7 Θ1 o A (F7 F t.2.2.2.2.2) R D tp ou ct co eo s (upI (mxN s : Int) (fun _ => 0) (mxS s)) t.2.1 t.2.2.1 (K.set jk (hmS hm Fm (t.2.2.1.length : Int) M)) W ma → MpV CtO Θ1 t.2.2.1 M → IxK Θ1 a (t.2.2.2.1.map ma) t.1 L → (g1 : Int) ≤ (g0 : Int) + (t.2.2.2.2.1 - t0.2.2.2.2.1) → Q l4 Θ1) :
    ∀ (M i : Nat) (Θ1 : Th) (W L : List It) (Fm : List Int) (Mm : List Int → Int) (t : S7T) (g1 : Nat), mxN s - i = M → i ≤ mxN s → t = s7N was N0 s Bf t0 i → OwT Θ0 L0 Θ1 (W ++ L) → Mx7 Θ1 o A (F7 F t.2.2.2.2.2) R D tp ou ct co eo s (upI (i : Int) (fun _ => 0) (mxS s)) t.2.1 t.2.2.1 (K.set jk (hmS hm Fm (t.2.2.1.length : Int) Mm)) W ma → MpV CtO Θ1 t.2.2.1 Mm → IxK Θ1 a (t.2.2.2.1.map ma) t.1 L → (g1 : Int) ≤ (g0 : Int) + (t.2.2.2.2.1 - t0.2.2.2.2.1) → W2_X1_scan_525 ω d G o (N0 : Int) l2 l4 (i : Int) g1 Θ1 Q := sorry
end SC7

/-! 88.aw.lean.txt -/
/-! scan: from the files to the mails as a whole -/
set_option maxRecDepth 100000
set_option maxHeartbeats 4000000
/-- what the fold over files leaves of a mail's fields -/
def S4I (mf0 : Int → List Int) (ps0 : Int → List (Int × Int)) (s : S4T) (n : Int) : Prop :=
  len (s.2.2.2.2 n) = 11 ∧ (∀ j, 0 ≤ j → j ≠ 7 → gt (s.2.2.2.2 n) j = gt (mf0 n) j) ∧ gt (s.2.2.2.2 n) 7 = (if s.2.2.2.1 n = ps0 n then 0 else 1) ∧ (s.2.2.2.1 n).Sublist (ps0 n)
theorem S4I.st {mf0 : Int → List Int} {ps0 : Int → List (Int × Int)} {s : S4T} {n : Int} (h : S4I mf0 ps0 s n) (r : FiR) : S4I mf0 ps0 (s4F s r) n := sorry
theorem S4I.fo {mf0 : Int → List Int} {ps0 : Int → List (Int × Int)} {n : Int} : ∀ (X : List FiR) (s : S4T), S4I mf0 ps0 s n → S4I mf0 ps0 (X.foldl s4F s) n := sorry
/-- the mails after the files were looked at -/
def mxF4 (nm : Int → List Int) (s : MxT) (t : S4T) : MxT := (mxN s, mxK s, mxB s, t.2.2.2.1, (fun n => if t.2.2.2.1 n = mxP s n then 0 else 1), (fun _ => 0), mxD s, mxC s, mxc s, t.2.1, mxG s, mxX s, mxV s, mx1 s, mx2 s, (fun n => (mxP s n).map (fun p => nm p.1)), (fun n => adK (mxh s n) (mxP s n).length), mxY s, mxS s)
section SCW
variable {Θ Θ1 : Th} {W : List It} {o v cf : Int} {A : Int → Int} {F R tp ou : List Int} {ct co eo : Int} {s : MxT} {ma : Int → Int} {nm : Int → List Int} {FB : List FiR} {Z : List It}
/-- before: the works, told by their parts -/
theorem mxW_sc (hV : MxW Θ o A F R tp ou ct co eo s (lsI (A 5) (fad FB) cf :: (fiL FB ++ Z)) W ma) : ∃ (ML : List Int) (mf : Int → List Int) (pa : Int → Int) (pls : Int → List Int) (ta tp1 tq hA : Int → Int) (hr : Int → List Int), W = scL o A F R (mxT s) tp ou ct co eo ML (mxc s) (mxN s) ma mf pa pls (mxC s) ta tp1 tq (mxX s) (mxV s) (mx1 s) (mx2 s) hA hr (mxh s) FB cf Z ∧ MxF Θ s ML ma mf pa ta hA pls hr := hV
/-- after: the works as a whole -/
theorem mxW_4 {ML : List Int} {mf : Int → List Int} {pa ta tp1 tq hA : Int → Int} {pls pls' hr hr1 : Int → List Int} {FINS : S4T} {X : List FiR} {D : List Int} {P0 : List FiR} {fr0 : List FiR} (hM : MxF Θ s ML ma mf pa ta hA pls hr) (hs0 : ∀ n, 0 ≤ n → n < (mxN s : Int) → mxS s n = 0) (Lq : Le Θ Θ1) (hfin : X.foldl s4F (P0, D, fr0, mxP s, mfZ mf) = FINS) (hH : ScH Θ1 (mxN s) FINS.2.2.2.2 pa ta hA pls' FINS.2.2.2.1 nm FINS.1) (hh : ∀ n, 0 ≤ n → n < (mxN s : Int) → all2 (Str Θ1) (hr1 n) ((mxP s n).map (fun p => nm p.1))) : MxW Θ1 o A F R tp ou ct co eo (mxF4 nm s FINS) (scK A FINS.1 cf v FINS.2.2.1 Z) (scL o A F R FINS.2.1 tp ou ct co eo ML (mxc s) (mxN s) ma FINS.2.2.2.2 pa pls' (mxC s) ta tp1 tq (mxX s) (mxV s) (mx1 s) (mx2 s) hA hr1 (fun n => adK (mxh s n) (mxP s n).length) FINS.1 cf (frL v FINS.2.2.1 :: Z)) ma := sorry
end SCW
section SCH
variable {Θ Θ1 : Th} {s : MxT} {ma pa ta hA : Int → Int} {ML : List Int} {mf pls hr : Int → List Int} {nm : Int → List Int} {FB : List FiR} {N : Nat} {psF : Int → List (Int × Int)}
theorem mxF_H (hM : MxF Θ s ML ma mf pa ta hA pls hr) (hP : MxP s FB nm) (hl : ∀ n, 0 ≤ n → n < (mxN s : Int) → ((mxP s n).length : Int) ≤ 100000) (hz : ∀ r, r ∈ FB → FiZ Θ r) : ScH Θ (mxN s) mf pa ta hA pls (mxP s) nm FB := sorry
theorem ScH.mfz (h : ScH Θ N mf pa ta hA pls psF nm FB) (Lq : Le Θ Θ1) : ScH Θ1 N (mfZ mf) pa ta hA pls psF nm FB := sorry
/-- fresh files are among those that are left -/
theorem s4F_fr : ∀ (X : List FiR) (t : S4T), (∀ r, r ∈ t.2.2.1 → r ∈ t.1) → ∀ r, r ∈ (X.foldl s4F t).2.2.1 → r ∈ (X.foldl s4F t).1 := sorry
end SCH

/-! 88.ax.lean.txt -/
/-! mails as a whole: what the commands that look at them see -/
set_option maxRecDepth 100000
set_option maxHeartbeats 4000000
section MXV
variable {Θ : Th} {K W : List It} {o : Int} {A : Int → Int} {F R tp ou : List Int} {ct co eo : Int} {s : MxT} {ma : Int → Int} {nm : Int → List Int} {FB : List FiR}
/-- at rest (no content is stale) the works show themselves as WsV -/
theorem mxW_V (hO : OwS Θ W) (hV : MxW Θ o A F R tp ou ct co eo s K W ma) (hF : FA F A) (hs0 : ∀ n, 0 ≤ n → n < (mxN s : Int) → mxS s n = 0) (hP : MxP s FB nm) (hK : ∀ r, r ∈ FB → obj r.1 (26, r.2.1, 0, 0) ∈ K) (hz : ∀ r, r ∈ FB → FiZ Θ r) :
    ∃ (ML : List Int) (M : Int → MaR), WsV Θ o F ML M nm (fun f => lbG (nm f)) ∧ len ML = (mxN s : Int) ∧ (∀ n, 0 ≤ n → n < (mxN s : Int) → gt ML n = ma n) ∧ ∀ n, (M n).2.1 = mxK s n ∧ (M n).2.2.1 = mxB s n ∧ (M n).2.2.2.1 = mxP s n ∧ (M n).2.2.2.2 = mxX s n := sorry
end MXV

/-! 88.ay.lean.txt -/
/-! scan: the phases together (plain parts) -/
set_option maxRecDepth 100000
set_option maxHeartbeats 4000000
theorem s4F_tl : ∀ (X : List FiR) (t : S4T) (B : Int), 0 ≤ B → tldB t.2.1 B → tldB (X.foldl s4F t).2.1 (B + (X.length : Int)) := sorry
theorem s4F_frl : ∀ (X : List FiR) (t : S4T), (X.foldl s4F t).2.2.1.length ≤ t.2.2.1.length + X.length ∧ (X.foldl s4F t).1.length ≤ t.1.length + X.length := sorry
/-- what is left does not hang on the mails' fields -/
theorem s4F_ind : ∀ (X : List FiR) (t t' : S4T), t.1 = t'.1 → t.2.1 = t'.2.1 → t.2.2.1 = t'.2.2.1 → t.2.2.2.1 = t'.2.2.2.1 → (X.foldl s4F t).1 = (X.foldl s4F t').1 ∧ (X.foldl s4F t).2.1 = (X.foldl s4F t').2.1 ∧ (X.foldl s4F t).2.2.1 = (X.foldl s4F t').2.2.1 ∧ (X.foldl s4F t).2.2.2.1 = (X.foldl s4F t').2.2.2.1 := sorry
theorem s4F_sub : ∀ (X : List FiR) (t : S4T) (Y : List FiR), (∀ r, r ∈ t.1 → r ∈ Y) → (∀ r, r ∈ X → r ∈ Y) → ∀ r, r ∈ (X.foldl s4F t).1 → r ∈ Y := sorry
/-- the fold over files, the mails' fields left out -/
def fin4 (s : MxT) (FB : List FiR) : S4T := (FB.reverse).foldl s4F ([], mxT s, [], mxP s, fun _ => [])
theorem mxF4_i {nm : Int → List Int} {s : MxT} {t t' : S4T} (h2 : t.2.1 = t'.2.1) (h4 : t.2.2.2.1 = t'.2.2.2.1) : mxF4 nm s t = mxF4 nm s t' := by
  unfold mxF4
  rw [h2, h4]
/-! 88.az.lean.txt -/
/-! scan: from the mails' loop to the end -/
set_option maxRecDepth 100000
set_option maxHeartbeats 4000000
theorem s4F_sl : ∀ (X : List FiR) (t : S4T), (X.foldl s4F t).1.Sublist (X.reverse ++ t.1) := sorry
theorem s4F_pl : ∀ (X : List FiR) (t : S4T) (n : Int), ((X.foldl s4F t).2.2.2.1 n).Sublist (t.2.2.2.1 n) := sorry
theorem seM_nil {FB : List FiR} : FB.map (seM []) = FB := sorry
theorem seM_ext {X Y : List Int} {FB : List FiR} (h : ∀ a, a ∈ X ↔ a ∈ Y) : FB.map (seM X) = FB.map (seM Y) := sorry
theorem lsM_le {so : Int} {Θ Θ1 : Th} {r : Int} {l : List Int} (h : lsM so Θ r l) (Lq : Le Θ Θ1) : lsM so Θ1 r l := sorry
/-- maps, tools, the rest -/
def rsK (A : Int → Int) (Fb Fs Fm : List Int) (kb ks kc : List (List Int)) (Mb Ms Mm : List Int → Int) (ch arr st sb : Int) (FT : List Int) (Y : List It) : List It := hmS (A 9) Fb (kb.length : Int) Mb :: hmS (A 10) Fs (ks.length : Int) Ms :: hmS (A 8) Fm (kc.length : Int) Mm :: tlI (A 4) ch arr st sb FT :: Y
/-- scan as a function -/
def sc5 (nm : Int → List Int) (s : MxT) (FB : List FiR) (kb ks : List (List Int)) : S5T := ((fin4 s FB).2.2.1.reverse).foldl (s5F nm) (mxF4 nm s (fin4 s FB), (kb, ks, 0), 0)
def sc7 (was : Int → Bool) (N0 : Nat) (s5 : MxT) (Bf : Int → Int) (x : IxT) (DM : List Int) : S7T := s7N was N0 s5 Bf (x, mxD s5, mxY s5, DM, 0, 0) (mxN s5)
def scE (s5 : MxT) (D : List Int) (t : S7T) : MxT := (mxN s5, mxK s5, mxB s5, mxP s5, mxL s5, mxA s5, t.2.1, mxC s5, mxc s5, D, mxG s5, mxX s5, mxV s5, mx1 s5, mx2 s5, mxH s5, mxh s5, t.2.2.1, fun _ => 0)
theorem sc5_nn {nm : Int → List Int} {s : MxT} {FB : List FiR} {kb ks : List (List Int)} : 0 ≤ (sc5 nm s FB kb ks).2.2 := sorry
section SCZ
variable {ω : AO} {d G : Nat} {Θ Θ1 Θ0 : Th} {L0 W L Y K : List It} {o : Int} {A : Int → Int} {F R D tp ou : List Int} {ct co eo cf l2 bc ch arr st sb : Int} {s : MxT} {ma : Int → Int} {nm : Int → List Int} {FB : List FiR} {FT Fb Fs Fm : List Int} {kb ks : List (List Int)} {Mb Ms Mm : List Int → Int} {was : Int → Bool} {x : IxT} {DM : List Int} {Bf : Int → Int} {t : S7T}
theorem mx7_W (hV : Mx7 Θ o A F R D tp ou ct co eo s (upI (mxN s : Int) (fun _ => 0) (mxS s)) t.2.1 t.2.2.1 K W ma) : MxW Θ o A F R tp ou ct co eo (scE s D t) K W ma := sorry
theorem mxX_7 (hV : MxX Θ o A F R D tp ou ct co eo s K W ma) : Mx7 Θ o A F R D tp ou ct co eo s (upI ((0 : Nat) : Int) (fun _ => 0) (mxS s)) (mxD s) (mxY s) K W ma := sorry
theorem mxX_map (hV : MxX Θ o A F R D tp ou ct co eo s K W ma) (Lq : Le Θ Θ1) : MxX Θ1 o A F R D tp ou ct co eo s K W ma := sorry
theorem u_scan78 {Q : Int → Th → Prop} {cb : Int} {S4 : S4T} {S5 : S5T} {D6 : List Int} {t7 : S7T} {B0 : Int} (hd : 60 ≤ d) (hO0 : OwS Θ0 L0) (T : OwT Θ0 L0 Θ1 (W ++ L))
    (hV : MxW Θ1 o A F R tp ou ct co eo s (lsI (A 5) (fad FB) cf :: (fiL FB ++ (btI l2 bc cb was :: rsK A Fb Fs Fm kb ks (mxY s) Mb Ms Mm ch arr st sb FT Y))) W ma)
    (hF : FA F A) (hs0 : ∀ n, 0 ≤ n → n < (mxN s : Int) → mxS s n = 0) (hP : MxP s FB nm) (hz : ∀ r, r ∈ FB → FiZ Θ1 r ∧ r.2.2.1 = nm r.1 ∧ wide r.2.2.2.1 = 0 ∧ len r.2.2.2.1 ≤ 10000) (hnd : (fad FB).Nodup) (hnn : ∀ r, r ∈ FB → -1 ≤ r.1)
    (hVb : MpV (lsM 2) Θ1 kb Mb) (hVs : MpV (lsM 1) Θ1 ks Ms) (hVm : MpV CtO Θ1 (mxY s) Mm) (hI : IxK Θ1 (A 7) (DM.map ma) x L) (hDM : ∀ m, m ∈ DM → m < (mxN s : Int))
    (hB : MxB s B0) (hB0 : 0 ≤ B0) (hD0 : tldB (mxT s) 0) (hFl : (FB.length : Int) ≤ B0) (hB1 : B0 + 2 * S5.2.2 ≤ 40000) (hkl : kb.length ≤ 40000 ∧ ks.length ≤ 40000) (hcc : ∀ n, 0 ≤ n → mxh s n = 0 ∨ 10 ≤ mxh s n) (hcb : ∀ n, 0 ≤ n → n < (mxN s : Int) → mxh s n ≤ 100000)
    (h4 : fin4 s FB = S4) (h5 : sc5 nm s FB kb ks = S5) (h6 : s6N nm was S5.1 (mxN s) = D6) (h7 : sc7 was (mxN s) S5.1 Bf x DM = t7) (h5i : inI S5.2.2)
    (hE : ∀ i : Nat, i < mxN S5.1 → E7 S5.1 Bf (s7N was (mxN s) S5.1 Bf (x, mxD S5.1, mxY S5.1, DM, 0, 0) i) (i : Int))
    (g0 : Nat) (hG : (g0 : Int) + 1 + whG (mxh s) (mxP s) (mxN s) + adK 0 S4.2.2.1.length + (mxG S5.1 - mxG s) + S5.2.1.2.2 + t7.2.2.2.2.1 ≤ (G : Int)) (hgp : 0 ≤ mxG S5.1 - mxG s ∧ 0 ≤ S5.2.1.2.2 ∧ 0 ≤ t7.2.2.2.2.1)
    (hQ : ∀ Θ' W' L' ma' Fb' Fs' Fm' Mb' Ms' Mm', OwT Θ0 L0 Θ' (W' ++ L') → MxW Θ' o A (F7 F t7.2.2.2.2.2) R tp ou ct co eo (scE S5.1 D6 t7) (lsI (A 5) (fad (S4.1.map (seM (fad S4.2.2.1)))) cf :: (fiL (S4.1.map (seM (fad S4.2.2.1))) ++ rsK A Fb' Fs' Fm' S5.2.1.1 S5.2.1.2.1 t7.2.2.1 Mb' Ms' Mm' ch arr st sb FT Y)) W' ma' → MpV (lsM 2) Θ' S5.2.1.1 Mb' → MpV (lsM 1) Θ' S5.2.1.2.1 Ms' → MpV CtO Θ' t7.2.2.1 Mm' → IxK Θ' (A 7) (t7.2.2.2.1.map ma') t7.1 L' → MxP S5.1 (S4.1.map (seM (fad S4.2.2.1))) nm → Le Θ1 Θ' → MxB S5.1 (B0 + 2 * S5.2.2) → tldB D6 (B0 + 2 * S5.2.2 + 2 * (mxN s : Int)) → Q S5.2.2 Θ') : W2_X1_scan_78 ω d G o (mxN s : Int) l2 0 g0 Θ1 Q := sorry
end SCZ

/-! 88.ba.lean.txt -/
/-! scan whole (the way that does not throw) -/
set_option maxRecDepth 100000
set_option maxHeartbeats 4000000
theorem mrS_len : ∀ (l : List FiR) (s : MrS), (l.foldl mrS s).2.1.length ≤ s.2.1.length + l.length ∧ (l.foldl mrS s).2.2.1.length ≤ s.2.2.1.length + l.length := sorry
def wasF (s : MxT) : Int → Bool := fun j => decide (0 ≤ j ∧ j < (mxN s : Int)) && !(mxP s j).isEmpty
/-- the index's head -/
theorem IxK.hd {Θ : Th} {a : Int} {rsM : List Int} {s : IxT} {L : List It} (h : IxK Θ a rsM s L) (hO : OwS Θ L) : ∃ IF c1 e1, xo Θ a = (21, IF, 0, 0) ∧ xo Θ (gt IF 1) = (3, rsM, c1, e1) ∧ gt IF 7 = s.2.2.2.1 ∧ rsM.length = s.1.length := sorry
section SCX
variable {ω : AO} {d G : Nat} {Θ Θ1 Θ0 : Th} {L0 W L Y K : List It} {o : Int} {A : Int → Int} {F R D tp ou : List Int} {ct co eo cf l2 bc ch arr st sb : Int} {s : MxT} {ma : Int → Int} {nm : Int → List Int} {FB : List FiR} {FT Fb Fs Fm : List Int} {kb ks : List (List Int)} {Mb Ms Mm : List Int → Int} {was : Int → Bool} {x : IxT} {DM : List Int} {Bf : Int → Int} {t : S7T}
theorem mxT_uq (hO : OwS Θ W) (hV : MxW Θ o A F R tp ou ct co eo s K W ma) (t : Θ1 = uq Θ (A 1) (104, D, 0, 0)) : ∃ W', OwT Θ W Θ1 W' ∧ MxW Θ1 o A F R tp ou ct co eo (mxTw s D) K W' ma := sorry
theorem mxW_D (hO : OwS Θ W) (hV : MxW Θ o A F R tp ou ct co eo s K W ma) : xo Θ (A 1) = (104, mxT s, 0, 0) ∧ ¬ fz Θ (A 1) := mxX_D hO (mxX_of hV)
theorem mxW_l (hO : OwS Θ W) (hV : MxW Θ o A F R tp ou ct co eo s K W ma) : ∃ ML e, xo Θ (A 6) = (3, ML, mxc s, e) ∧ ¬ fz Θ (A 6) ∧ len ML = (mxN s : Int) ∧ ∀ n, 0 ≤ n → n < (mxN s : Int) → gt ML n = ma n := mxX_l hO (mxX_of hV)
theorem u_X1_scan {Q : Int → Th → Prop} {RD : MrS} {s1 : MxT} {S4 : S4T} {S5 : S5T} {D6 : List Int} {t7 : S7T} {B0 : Int} (hd : 64 ≤ d) (hO : OwS Θ (W ++ L))
    (hV : MxW Θ o A F R tp ou ct co eo s (lsI (A 5) (fad FB) cf :: (fiL FB ++ rsK A Fb Fs Fm kb ks (mxY s) Mb Ms Mm ch arr st sb FT Y)) W ma)
    (hF : FA F A) (hs0 : ∀ n, 0 ≤ n → n < (mxN s : Int) → mxS s n = 0) (hP : MxP s FB nm) (hz : ∀ r, r ∈ FB → FiZ Θ r ∧ r.2.2.1 = nm r.1 ∧ wide r.2.2.2.1 = 0 ∧ len r.2.2.2.1 ≤ 10000) (hnd : (fad FB).Nodup) (hnn : ∀ r, r ∈ FB → -1 ≤ r.1)
    (hVb : MpV (lsM 2) Θ kb Mb) (hVs : MpV (lsM 1) Θ ks Ms) (hVm : MpV CtO Θ (mxY s) Mm) (hI : IxK Θ (A 7) (DM.map ma) x L) (hDM : ∀ m, m ∈ DM → m < (mxN s : Int))
    (hB : MxB s B0) (hB0 : 9 ≤ B0) (hFl : (FB.length : Int) ≤ B0) (hB1 : B0 + 2 * S5.2.2 ≤ 40000) (hkl : kb.length + FB.length ≤ 40000 ∧ ks.length + FB.length ≤ 40000) (hcc : ∀ n, 0 ≤ n → mxh s n = 0 ∨ 10 ≤ mxh s n) (hcb : ∀ n, 0 ≤ n → n < (mxN s : Int) → mxh s n ≤ 100000)
    (hrd : FB.foldl mrS (0, kb, ks, 0) = RD) (hlim : x.1.length < 2000 ∧ x.2.2.2.1 < 40000 ∧ RD.1 + (mxN s : Int) ≤ 200) (hpc : inI x.2.2.2.1)
    (hs1 : mxTw s (List.replicate 9 0) = s1) (h4 : fin4 s1 FB = S4) (h5 : sc5 nm s1 FB RD.2.1 RD.2.2.1 = S5) (h6 : s6N nm (wasF s) S5.1 (mxN s) = D6) (h7 : sc7 (wasF s) (mxN s) S5.1 Bf x DM = t7) (h5i : inI S5.2.2)
    (hE : ∀ i : Nat, i < mxN S5.1 → E7 S5.1 Bf (s7N (wasF s) (mxN s) S5.1 Bf (x, mxD S5.1, mxY S5.1, DM, 0, 0) i) (i : Int))
    (hG : RD.2.2.2 + 4 + whG (mxh s) (mxP s) (mxN s) + adK 0 S4.2.2.1.length + (mxG S5.1 - mxG s) + S5.2.1.2.2 + t7.2.2.2.2.1 ≤ (G : Int)) (hgp : 0 ≤ mxG S5.1 - mxG s ∧ 0 ≤ S5.2.1.2.2 ∧ 0 ≤ t7.2.2.2.2.1)
    (hQ : ∀ Θ' W' L' ma' Fb' Fs' Fm' Mb' Ms' Mm', OwT Θ (W ++ L) Θ' (W' ++ L') → MxW Θ' o A (F7 F t7.2.2.2.2.2) R tp ou ct co eo (scE S5.1 D6 t7) (lsI (A 5) (fad (S4.1.map (seM (fad S4.2.2.1)))) cf :: (fiL (S4.1.map (seM (fad S4.2.2.1))) ++ rsK A Fb' Fs' Fm' S5.2.1.1 S5.2.1.2.1 t7.2.2.1 Mb' Ms' Mm' ch arr st sb FT Y)) W' ma' → MpV (lsM 2) Θ' S5.2.1.1 Mb' → MpV (lsM 1) Θ' S5.2.1.2.1 Ms' → MpV CtO Θ' t7.2.2.1 Mm' → IxK Θ' (A 7) (t7.2.2.2.1.map ma') t7.1 L' → MxP S5.1 (S4.1.map (seM (fad S4.2.2.1))) nm → MxB S5.1 (B0 + 2 * S5.2.2) → tldB D6 (B0 + 2 * S5.2.2 + 2 * (mxN s : Int)) → Q S5.2.2 Θ') : w2_X1_scan ω d G o Θ Q := sorry
end SCX

