/-! characters are no less than 0; a text of two addresses' parts -/
set_option maxRecDepth 100000
def nnL (l : List Int) : Prop := ∀ x, x ∈ l → 0 ≤ x
theorem nnL.nil : nnL [] := fun x hx => by cases hx
theorem nnL.app {a b : List Int} (h1 : nnL a) (h2 : nnL b) : nnL (a ++ b) := fun x hx => (List.mem_append.mp hx).elim (h1 x) (h2 x)
theorem nnL.cons {c : Int} {a : List Int} (h1 : 0 ≤ c) (h2 : nnL a) : nnL (c :: a) := fun x hx => (List.mem_cons.mp hx).elim (fun z => by rw [z]; exact h1) (h2 x)
theorem nnL.b {l : List Int} (h : byt l) : nnL l := fun x hx => (h x hx).1
theorem nnL.gnn {l : List Int} (h : nnL l) {k : Int} : 0 ≤ gt l k := by
  unfold gt
  rw [List.getD_eq_getElem?_getD]
  by_cases c : k.toNat < l.length
  · rw [List.getElem?_eq_getElem c]
    exact h _ (List.getElem_mem c)
  · rw [List.getElem?_eq_none (by omega)]
    exact Int.le_refl 0
theorem u8go_nn {c mo : Int} (hmo : mo ≤ 3) : ∀ (l : List Int) (n v : Int), 0 ≤ n → 0 ≤ v → ((n = 0 ∧ v < 32) ∨ (n = 1 ∧ v < 2048) ∨ (n = 2 ∧ v < 131072) ∨ (3 ≤ n ∧ v < 8388608)) → 0 ≤ (u8go c mo n v l).2.1
  | [], n, v, h0, h1, h2 => h1
  | b :: r, n, v, h0, h1, h2 => by
    unfold u8go
    split
    · rename_i hc
      rw [Bool.and_eq_true, decide_eq_true_iff] at hc
      have hn := hc.1
      have e : orI (v * 64) (b % 64) = v * 64 + b % 64 := orI_add (a := v) (y := b % 64) (m := 64) 6 rfl h1 (by omega) (by omega)
      rw [e]
      exact u8go_nn hmo r (n + 1) (v * 64 + b % 64) (by omega) (by omega) (by omega)
    · exact h1
theorem u8go_sub {c mo : Int} : ∀ (l : List Int) (n v : Int) (x : Int), x ∈ (u8go c mo n v l).2.2 → x ∈ l
  | [], n, v, x, h => h
  | b :: r, n, v, x, h => by
    unfold u8go at h
    split at h
    · exact List.mem_cons_of_mem _ (u8go_sub r _ _ x h)
    · exact h
theorem takeU8_nn {c : Int} {r : List Int} (hc : 0 ≤ c) : 0 ≤ (takeU8 c r).1 ∧ ∀ x, x ∈ (takeU8 c r).2 → x ∈ r := by
  unfold takeU8
  split
  · exact ⟨hc, fun x hx => hx⟩
  · refine ⟨?_, fun x hx => u8go_sub _ _ _ x hx⟩
    dsimp only
    split
    · refine u8go_nn ?_ r 0 _ (Int.le_refl 0) ?_ (Or.inl ⟨rfl, ?_⟩)
      · unfold u8more; repeat' split <;> omega
      · unfold u8v; repeat' split <;> omega
      · unfold u8v; repeat' split <;> omega
    · decide
theorem utf8_nn : ∀ (N : Nat) (l : List Int), l.length ≤ N → nnL l → nnL (utf8 l)
  | _, [], _, _ => by rw [utf8]; exact nnL.nil
  | N, c :: r, h, hn => by
    have h1 := takeU8_len c r
    have h2 := takeU8_nn (c := c) (r := r) (hn c (List.mem_cons_self ..))
    rw [utf8]
    exact nnL.cons h2.1 (utf8_nn (N - 1) _ (by simp only [List.length_cons] at h; omega) (fun x hx => hn x (List.mem_cons_of_mem _ (h2.2 x hx))))
termination_by N l => l.length
decreasing_by
  simp only [List.length_cons]
  omega
/-- a sign that is no part of a longer one -/
theorem u8fit_64 (c n : Int) : u8fitB c n 64 = false := by
  unfold u8fitB
  split
  · apply decide_eq_false
    intro h
    have h1 := h.1
    revert h1
    repeat' split <;> omega
  · apply decide_eq_false
    omega
theorem u8go_at {c mo : Int} {b : List Int} : ∀ (l : List Int) (n v : Int), u8go c mo n v (l ++ 64 :: b) = ((u8go c mo n v l).1, (u8go c mo n v l).2.1, (u8go c mo n v l).2.2 ++ 64 :: b)
  | [], n, v => by
    show u8go c mo n v (64 :: b) = (n, v, 64 :: b)
    unfold u8go
    rw [u8fit_64, Bool.and_false, if_neg (by decide)]
  | x :: r, n, v => by
    rw [List.cons_append]
    unfold u8go
    by_cases hc : (decide (n < mo) && u8fitB c n x) = true
    · rw [if_pos hc, if_pos hc]
      exact u8go_at r _ _
    · rw [if_neg hc, if_neg hc]
      rfl
theorem takeU8_at {c : Int} {r b : List Int} : takeU8 c (r ++ 64 :: b) = ((takeU8 c r).1, (takeU8 c r).2 ++ 64 :: b) := by
  unfold takeU8
  split
  · rfl
  · rw [u8go_at]
theorem utf8_at {b : List Int} : ∀ (N : Nat) (l : List Int), l.length ≤ N → utf8 (l ++ 64 :: b) = utf8 l ++ 64 :: utf8 b
  | _, [], _ => by
    rw [List.nil_append, utf8.eq_2, utf8.eq_1, take_lo b (by decide)]
    rfl
  | N, c :: r, h => by
    have h1 := takeU8_len c r
    rw [List.cons_append, utf8.eq_2, utf8.eq_2 c r, takeU8_at, List.cons_append]
    congr 1
    exact utf8_at (N - 1) _ (by simp only [List.length_cons] at h; omega)
termination_by N l => l.length
decreasing_by
  simp only [List.length_cons]
  omega
def hiP (p : Int) : Prop := p = 0 ∨ 55296 ≤ p
theorem ust_nn {p u : Int} (hp : hiP p) (hu : 0 ≤ u) : nnL (ust p u).1 ∧ hiP (ust p u).2 := by
  unfold hiP at *
  unfold ust
  have hX : nnL (if 0 < p then ([65533] : List Int) else []) := by
    split
    · exact nnL.cons (by decide) nnL.nil
    · exact nnL.nil
  split
  · refine ⟨nnL.cons ?_ nnL.nil, Or.inl rfl⟩
    omega
  · split
    · exact ⟨hX, Or.inr (by show 55296 ≤ u; omega)⟩
    · refine ⟨hX.app (nnL.cons ?_ nnL.nil), Or.inl rfl⟩
      split
      · decide
      · exact hu
theorem uend_nn {p : Int} : nnL (uend p) := by
  unfold uend
  split
  · exact nnL.cons (by decide) nnL.nil
  · exact nnL.nil
theorem units_nn : ∀ (l : List Int) (p : Int), hiP p → nnL l → nnL (units p l)
  | [], p, _, _ => uend_nn
  | u :: r, p, hp, hl => by
    have h := ust_nn hp (hl u (List.mem_cons_self ..))
    show nnL ((ust p u).1 ++ units (ust p u).2 r)
    exact h.1.app (units_nn r _ h.2 (fun x hx => hl x (List.mem_cons_of_mem _ hx)))
theorem orI_by {a b : Int} (ha : 0 ≤ a ∧ a < 256) (hb : 0 ≤ b ∧ b < 256) : 0 ≤ orI (a * 256) b := by
  rw [orI_add (a := a) (y := b) (m := 256) 8 rfl ha.1 hb (by omega)]
  omega
theorem pairUp_nn {le : Bool} : ∀ (l : List Int), byt l → nnL (pairUp le l)
  | [], _ => nnL.nil
  | [_], _ => nnL.nil
  | a :: b :: r, h => by
    have ha := h a (List.mem_cons_self ..)
    have hb := h b (List.mem_cons_of_mem _ (List.mem_cons_self ..))
    show nnL ((if le then orI (b * 256) a else orI (a * 256) b) :: pairUp le r)
    refine nnL.cons ?_ (pairUp_nn r (fun x hx => h x (List.mem_cons_of_mem _ (List.mem_cons_of_mem _ hx))))
    split
    · exact orI_by hb ha
    · exact orI_by ha hb
theorem odd1_nn : ∀ (l : List Int), nnL (odd1 l)
  | [] => nnL.nil
  | [_] => nnL.cons (by decide) nnL.nil
  | _ :: _ :: r => odd1_nn r
theorem rd16_nn {v : Int} {l : List Int} (h : byt l) : nnL (rd16 v l) := by
  have hd : byt (l.drop (at16 v l).toNat) := fun x hx => h x (List.mem_of_mem_drop hx)
  unfold rd16 readU
  exact (units_nn _ 0 (Or.inl rfl) (pairUp_nn _ hd)).app (odd1_nn _)
theorem rnO_nn {l : List Int} : ∀ (N : Nat) (k b n p : Int), (len l - k).toNat = N → hiP p → nnL (rnO l k b n p) := by
  intro N
  induction N using Nat.strongRecOn with
  | ind N ih =>
    intro k b n p hN hp
    rw [rnO]
    split
    · split
      · exact ih _ (by omega) (k + 1) _ _ p rfl hp
      · have hu : 0 ≤ shrI (orI (b * 64) (letF (gt l k)) % 4194304) (n + 6 + -16) % 65536 := by omega
        have h := ust_nn hp hu
        exact h.1.app (ih _ (by omega) (k + 1) _ _ _ rfl h.2)
    · exact uend_nn
theorem sv7_nn {l : List Int} (hl : nnL l) : ∀ (N : Nat) (k : Int), (len l - k).toNat = N → 0 ≤ k → nnL (sv7 l k) := by
  intro N
  induction N using Nat.strongRecOn with
  | ind N ih =>
    intro k hN k0
    rw [sv7]
    split
    · split
      · split
        · exact nnL.cons (by decide) (ih _ (by omega) (k + 2) rfl (by omega))
        · exact (rnO_nn _ _ _ _ _ rfl (Or.inl rfl)).app (ih _ (by omega) _ rfl (by omega))
      · refine nnL.cons ?_ (ih _ (by omega) (k + 1) rfl (by omega))
        split
        · exact hl.gnn
        · decide
    · exact nnL.nil
theorem win_nn : ∀ n : Nat, n < 32 → 0 ≤ cl_cWindows.getD n 0 := by decide
theorem koi_nn : ∀ n : Nat, n < 32 → 32 ≤ cl_cKoi.getD n 0 := by decide
theorem chr1_nn {cs b : Int} (hb : 0 ≤ b ∧ b < 256) : 0 ≤ chr1 cs b := by
  unfold chr1
  split
  · split <;> omega
  split
  · omega
  split
  · unfold lat9
    repeat' split <;> omega
  split
  · split
    · exact win_nn _ (by omega)
    · omega
  split
  · omega
  split
  · omega
  split
  · omega
  split
  · omega
  split
  · have := koi_nn (b - 192).toNat (by omega); omega
  · have := koi_nn (b - 224).toNat (by omega); omega
theorem chsF_nn {cs : Int} {l : List Int} (h : byt l) : nnL (chsF cs l) := by
  unfold chsF
  split
  · exact utf8_nn _ l (Nat.le_refl _) (nnL.b h)
  split
  · exact rd16_nn h
  split
  · exact sv7_nn (nnL.b h) _ 0 rfl (Int.le_refl 0)
  · intro x hx
    obtain ⟨y, hy, rfl⟩ := List.mem_map.mp hx
    exact chr1_nn (h y hy)
theorem wdB_byt {l : List Int} {k e : Int} (h : byt l) : byt (wdB l k e) := by
  unfold wdB
  split
  · exact unbase_byt _ _ _
  · exact (qwF_ok (byt_sub h) _ 0 rfl (Int.le_refl 0)).1
theorem enR_nn {l : List Int} (h : byt l) : ∀ (N : Nat) (k : Int) (pl : List Int) (w : Bool), (len l - k).toNat = N → nnL pl → nnL (enR l k pl w) := by
  intro N
  induction N using Nat.strongRecOn with
  | ind N ih =>
    intro k pl w hN hp
    have hU : nnL (utf8 pl) := utf8_nn _ pl (Nat.le_refl _) hp
    rw [enR]
    split
    · split
      · exact ih _ (by omega) (k + 1) _ w rfl (hp.app (nnL.cons (byt_gt h k).1 nnL.nil))
      · refine nnL.app ?_ (nnL.app (chsF_nn (wdB_byt h)) (ih _ (by omega) _ _ _ rfl nnL.nil))
        split
        · exact nnL.nil
        · exact hU
    · exact hU
theorem tfC_lo {c : Int} (h : 0 ≤ c) : tfC c = if 65535 < c then 65533 else c := by
  unfold tfC
  split
  · rfl
  · omega
theorem tfF_app {a b : List Int} : tfF (a ++ b) = tfF a ++ tfF b := by unfold tfF; rw [List.map_append]
theorem utf8_adS {a b : List Int} : utf8 (adS a b) = if b = [] then utf8 a else utf8 a ++ 64 :: utf8 b := by
  unfold adS
  split
  · rfl
  · rw [List.append_assoc, List.singleton_append, utf8_at _ a (Nat.le_refl _)]
