/-! 45.str.lean.txt -/
/-! Strings in the abstract heap, and what their methods answer -/
set_option maxRecDepth 100000
/-- a byte as it lies in an array -/
def sb (x : Int) : Int := if x < 128 then x else x - 256
theorem sb_u {x : Int} (h : 0 ≤ x ∧ x < 256) : sb x % 256 = x := sorry
theorem sb_in {x : Int} (h : 0 ≤ x ∧ x < 256) : -128 ≤ sb x ∧ sb x < 128 := sorry
theorem sb_inj {x y : Int} (h : 0 ≤ x ∧ x < 256) (h2 : 0 ≤ y ∧ y < 256) (e : sb x = sb y) : x = y := by rw [← sb_u h, ← sb_u h2, e]
/-- the k-th of a row of numbers -/
def gt (l : List Int) (k : Int) : Int := l.getD k.toNat 0
/-- how many -/
def len (l : List Int) : Int := (l.length : Int)
theorem len_nn (l : List Int) : 0 ≤ len l := Int.natCast_nonneg _
/-- a row of characters in an array of bytes: by coder 0 (one byte each) or 1 (two) -/
def Enc (S : AS) (v c : Int) (l : List Int) : Prop :=
  (c = 0 ∧ ln S v = len l ∧ ∀ k, 0 ≤ k → k < len l → (0 ≤ gt l k ∧ gt l k < 256) ∧ ct S v k = sb (gt l k)) ∨
  (c = 1 ∧ ln S v = 2 * len l ∧ (∀ k, 0 ≤ k → k < len l → (0 ≤ gt l k ∧ gt l k < 65536) ∧ ct S v (k * 2) = sb (gt l k % 256) ∧ ct S v (k * 2 + 1) = sb (gt l k / 256)) ∧ ∃ k, 0 ≤ k ∧ k < len l ∧ 256 ≤ gt l k)
/-- a String's cells -/
def StrC (S : AS) (a : Int) (l : List Int) : Prop := tg S a = 2 ∧ tg S (ct S a 0) = 101 ∧ Enc S (ct S a 0) (ct S a 1) l
section STR
variable {ω : AO} {d G : Nat} {S : AS} {a b i n f v x : Int} {l m : List Int} {Q : Int → AS → Prop} {QV : AS → Prop}
theorem StrC.coder (h : StrC S a l) : ct S a 1 = 0 ∨ ct S a 1 = 1 := sorry
theorem t_J2_coder (ht : tg S a = 2) (hc : ct S a 1 = 0 ∨ ct S a 1 = 1) (hQ : Q (ct S a 1) S) : w_J2_coder ω d G a S Q := sorry
theorem t_J2_isLatin1 (ht : tg S a = 2) (hQ : ∀ x, x = (if ct S a 1 = 0 then 1 else 0) → Q x S) : w_J2_isLatin1 ω d G a S Q := sorry
theorem shr0 {x : Int} (h : inI x) : shrI x 0 = x := sorry
theorem shr1 {x : Int} (h : inI x) : shrI x 1 = x / 2 := sorry
theorem t_J2_length (hd : 1 ≤ d) (h : StrC S a l) (hQ : Q (len l) S) : w_J2_length ω d G a S Q := sorry
theorem t_J2_isEmpty (h : StrC S a l) (hQ : ∀ x, x = (if l = [] then 1 else 0) → Q x S) : w_J2_isEmpty ω d G a S Q := sorry
theorem t_J13_checkIndex (h : 0 ≤ i ∧ i < n) (hn : n < 2147483648) (hQ : Q i S) : w_J13_checkIndex ω d G i n f S Q := sorry
theorem t_J2_checkIndex (hd : 1 ≤ d) (h : 0 ≤ i ∧ i < n) (hn : n < 2147483648) (hQ : QV S) : w_J2_checkIndex ω d G i n S QV := sorry
theorem t_J12_charAt (hd : 2 ≤ d) (ht : tg S v = 101) (h : 0 ≤ i ∧ i < ln S v) (hQ : Q (ct S v i % 256) S) : w_J12_charAt ω d G v i S Q := sorry
theorem t_J3_length (ht : tg S v = 101) (hQ : Q (ln S v / 2) S) : w_J3_length ω d G v S Q := sorry
theorem t_J3_checkIndex (hd : 2 ≤ d) (ht : tg S v = 101) (h : 0 ≤ i ∧ i < ln S v / 2) (hl : ln S v < 2147483648) (hQ : QV S) : w_J3_checkIndex ω d G i v S QV := sorry
end STR

/-! 46.eq.lean.txt -/
/-! charAt, equals; frames -/
set_option maxRecDepth 100000
theorem gt_get {l : List Int} {k : Int} (h0 : 0 ≤ k) (h1 : k < len l) : gt l k = l[k.toNat]'(by unfold len at h1; omega) := sorry
theorem row_ext {l m : List Int} (h : len l = len m) (hk : ∀ k, 0 ≤ k → k < len l → gt l k = gt m k) : l = m := sorry
theorem or_disj (k : Nat) {x y : Int} (hk : k < 31) (hx : 0 ≤ x) (hy : 0 ≤ y) (hy2 : y < (2 ^ k : Nat)) (hs : x * (2 ^ k : Nat) + y < 2147483648) : orI (x * (2 ^ k : Nat)) y = x * (2 ^ k : Nat) + y := sorry
theorem or_256 {x y : Int} (hx : 0 ≤ x ∧ x < 4194304) (hy : 0 ≤ y ∧ y < 256) : orI (x * 256) y = x * 256 + y := sorry
theorem or_64 {x y : Int} (hx : 0 ≤ x ∧ x < 16777216) (hy : 0 ≤ y ∧ y < 64) : orI (x * 64) y = x * 64 + y := sorry
theorem or_8 {x y : Int} (hx : 0 ≤ x ∧ x < 256) (hy : 0 ≤ y ∧ y < 256) : orI (x * 1) (y * 256) = y * 256 + x := sorry
/-- what an encoded row holds at a place, as the machine reads it -/
theorem Enc.u16 {S : AS} {v : Int} {l : List Int} (h : Enc S v 1 l) {k : Int} (h0 : 0 ≤ k) (h1 : k < len l) : orI (ct S v (k * 2) % 256 * 1) (ct S v (k * 2 + 1) % 256 * 256) % 65536 = gt l k := sorry
theorem Enc.inj {S : AS} {u v c : Int} {l m : List Int} (h : Enc S u c l) (h' : Enc S v c m) : (ln S u = ln S v ∧ ∀ k, 0 ≤ k → k < ln S u → ct S u k = ct S v k) ↔ l = m := sorry
/-- a canonical coder: two encodings of one row have one coder -/
theorem Enc.coder {S : AS} {u v c e : Int} {l : List Int} (h : Enc S u c l) (h' : Enc S v e l) : c = e := sorry
section STR2
variable {ω : AO} {d G g : Nat} {S : AS} {a b i n f v u x : Int} {l m : List Int} {Q : Int → AS → Prop} {QV : AS → Prop}
theorem t_J3_getChar (h : Enc S v 1 l) (ht : tg S v = 101) (hi : 0 ≤ i ∧ i < len l) (hQ : Q (gt l i) S) : w_J3_getChar ω d G v i S Q := sorry
theorem t_J3_charAt (hd : 3 ≤ d) (h : Enc S v 1 l) (ht : tg S v = 101) (hv : ln S v < 2147483648) (hi : 0 ≤ i ∧ i < len l) (hQ : Q (gt l i) S) : w_J3_charAt ω d G v i S Q := sorry
theorem t_J2_charAt (hd : 4 ≤ d) (h : StrC S a l) (hv : ln S (ct S a 0) < 2147483648) (hi : 0 ≤ i ∧ i < len l) (hQ : Q (gt l i) S) : w_J2_charAt ω d G a i S Q := sorry
theorem t_J12_equals (h1 : tg S u = 101) (h2 : tg S v = 101) (hQ1 : (ln S u = ln S v ∧ ∀ k, 0 ≤ k → k < ln S u → ct S u k = ct S v k) → Q 1 S) (hQ0 : ¬ (ln S u = ln S v ∧ ∀ k, 0 ≤ k → k < ln S u → ct S u k = ct S v k) → Q 0 S) : w_J12_equals ω d G u v S Q := sorry
theorem t_J2_equals (hd : 1 ≤ d) (h : StrC S a l) (h' : StrC S b m) (ha : 0 ≤ a ∧ 0 ≤ b) (hQ : ∀ x, x = (if l = m then 1 else 0) → Q x S) : w_J2_equals ω d G a b S Q := sorry
end STR2

/-! 47.lst.lean.txt -/
/-! frames; ArrayList -/
set_option maxRecDepth 100000
theorem tg_wr {S : AS} {a k x b : Int} : tg (wr S a k x) b = tg S b := rfl
theorem ln_wr {S : AS} {a k x b : Int} : ln (wr S a k x) b = ln S b := rfl
theorem nx_wr {S : AS} {a k x : Int} : nx (wr S a k x) = nx S := rfl
theorem ct_wr {S : AS} {a k x b j : Int} : ct (wr S a k x) b j = if b = a ∧ j = k then x else ct S b j := rfl
theorem ct_wr1 {S : AS} {a k x : Int} : ct (wr S a k x) a k = x := if_pos ⟨rfl, rfl⟩
theorem ct_wrN {S : AS} {a k x b j : Int} (h : b ≠ a) : ct (wr S a k x) b j = ct S b j := if_neg (fun z => h z.1)
theorem ct_wrK {S : AS} {a k x b j : Int} (h : j ≠ k) : ct (wr S a k x) b j = ct S b j := if_neg (fun z => h z.2)
theorem tg_nw {S : AS} {t : Nat} {n b : Int} : tg (nw S t n) b = if b = nx S then t else tg S b := rfl
theorem ln_nw {S : AS} {t : Nat} {n b : Int} : ln (nw S t n) b = if b = nx S then n else ln S b := rfl
theorem ct_nw {S : AS} {t : Nat} {n b j : Int} : ct (nw S t n) b j = if b = nx S then ini t j else ct S b j := rfl
theorem nx_nw {S : AS} {t : Nat} {n : Int} : nx (nw S t n) = nx S + 1 := rfl
theorem tg_cp {S : AS} {a sp b dp n q : Int} : tg (cpS S a sp b dp n) q = tg S q := rfl
theorem ln_cp {S : AS} {a sp b dp n q : Int} : ln (cpS S a sp b dp n) q = ln S q := rfl
theorem nx_cp {S : AS} {a sp b dp n : Int} : nx (cpS S a sp b dp n) = nx S := rfl
theorem ct_cp {S : AS} {a sp b dp n q j : Int} : ct (cpS S a sp b dp n) q j = if q = b then (if dp ≤ j ∧ j < dp + n then ct S a (sp + (j - dp)) else ct S b j) else ct S q j := rfl
/-- cells below nx, but those of ex, keep what they hold -/
def Kp (S S' : AS) (ex : Int → Prop) : Prop := ∀ b j : Int, b < nx S → ¬ ex b → ct S' b j = ct S b j
theorem Kp.rf {S : AS} {ex : Int → Prop} : Kp S S ex := fun _ _ _ _ => rfl
theorem Kp.tr {S S1 S2 : AS} {ex : Int → Prop} (h : Kp S S1 ex) (h2 : Kp S1 S2 ex) (hn : nx S ≤ nx S1) : Kp S S2 ex := sorry
theorem Kp.mono {S S' : AS} {ex ex' : Int → Prop} (h : Kp S S' ex) (hh : ∀ b, b < nx S → ex b → ex' b) : Kp S S' ex' := fun b j hb hx => h b j hb (fun z => hx (hh b hb z))
theorem Kp.wr {S S1 : AS} {ex : Int → Prop} {a k x : Int} (h : Kp S S1 ex) (ha : ex a ∨ nx S ≤ a) : Kp S (wr S1 a k x) ex := sorry
/-- a reference that may lie in an array of objects -/
def Rf (S : AS) (x : Int) : Prop := x = -1 ∨ 0 < tg S x ∧ tg S x < 71
theorem Rf.ext {S S' : AS} {x : Int} (h : Rf S x) (E : Ext S S') : Rf S' x := sorry
/-- the empty array of ArrayList -/
def ev (ω : AO) : Int := (ω.2.2.1 "#V" 17 : Int) - 1
/-- an ArrayList's cells: what it holds, its capacity -/
def LstC (ω : AO) (S : AS) (a : Int) (l : List Int) (c : Int) : Prop :=
  tg S a = 3 ∧ bo ω ≤ a ∧ ct S a 2 = len l ∧ tg S (ct S a 1) = 106 ∧ ln S (ct S a 1) = c ∧ len l ≤ c ∧ (c = 0 ∧ ct S a 1 = ev ω ∨ 10 ≤ c ∧ bo ω ≤ ct S a 1) ∧
  (∀ k, 0 ≤ k → k < len l → ct S (ct S a 1) k = gt l k ∧ Rf S (gt l k)) ∧ ∀ k, len l ≤ k → k < c → ct S (ct S a 1) k = -1
/-- the capacity after a growth to at least m -/
def grC (c m : Int) : Int := if c = 0 then max 10 m else c + max (m - c) (c / 2)
/-- the capacity once one more was put at the end -/
def adC (c n : Int) : Int := if n = c then grC c (n + 1) else c
theorem gt_app {l : List Int} {x k : Int} (h0 : 0 ≤ k) : gt (l ++ [x]) k = if k < len l then gt l k else if k = len l then x else 0 := sorry
theorem len_app {l m : List Int} : len (l ++ m) = len l + len m := sorry
theorem len_1 {x : Int} : len [x] = 1 := rfl
section LST
variable {ω : AO} {d G : Nat} {S : AS} {a b i n m f v u x y c : Int} {l : List Int} {Q : Int → AS → Prop} {QV : AS → Prop}
theorem LstC.bnd (h : LstC ω S a l c) (hr : inI (ct S a 2)) : len l < 2147483648 := sorry
theorem t_J4_max (hx : inI x) (hy : inI y) (hQ : Q (max x y) S) : w_J4_max ω d G x y S Q := sorry
theorem t_J4_min (hx : inI x) (hy : inI y) (hQ : Q (min x y) S) : w_J4_min ω d G x y S Q := sorry
theorem t_J10_newLength (hd : 1 ≤ d) (h1 : inI m) (h2 : inI n) (h : 0 < x + max m n ∧ x + max m n ≤ 2147483639) (hQ : Q (x + max m n) S) : w_J10_newLength ω d G x m n S Q := sorry
theorem t_J11_copyOf_3 (hd : 1 ≤ d) (ht : tg S v = 106) (hn : 0 ≤ n ∧ n ≤ 60000000) (hG : n.toNat / 5 + 2 ≤ G) (hb : (∀ a, 0 < tg S a → 0 ≤ a ∧ a < nx S) → bo ω ≤ nx S) (hr : ∀ q, 0 ≤ q → q < ln S v → Rf S (ct S v q))
    (hQ : ∀ S', (∀ a, 0 < tg S a → 0 ≤ a ∧ a < nx S) → Ext S S' → nx S' = nx S + 1 → Kp S S' (fun _ => False) → tg S' (nx S) = 106 → ln S' (nx S) = n → (∀ k, 0 ≤ k → k < n → ct S' (nx S) k = if k < ln S v then ct S v k else -1) → Q (nx S) S') : w_J11_copyOf_3 ω d G v n (ω.2.2.1 "#M" 1 : Int) S Q := sorry
theorem t_J11_copyOf_2 (hd : 2 ≤ d) (ht : tg S v = 106) (hn : 0 ≤ n ∧ n ≤ 60000000) (hG : n.toNat / 5 + 2 ≤ G) (hb : (∀ a, 0 < tg S a → 0 ≤ a ∧ a < nx S) → bo ω ≤ nx S) (hr : ∀ q, 0 ≤ q → q < ln S v → Rf S (ct S v q))
    (hQ : ∀ S', (∀ a, 0 < tg S a → 0 ≤ a ∧ a < nx S) → Ext S S' → nx S' = nx S + 1 → Kp S S' (fun _ => False) → tg S' (nx S) = 106 → ln S' (nx S) = n → (∀ k, 0 ≤ k → k < n → ct S' (nx S) k = if k < ln S v then ct S v k else -1) → Q (nx S) S') : w_J11_copyOf_2 ω d G v n S Q := sorry
/-- what a growth leaves -/
def Grown (ω : AO) (S S' : AS) (a : Int) (l : List Int) (c' : Int) : Prop :=
  (∀ a, 0 < tg S a → 0 ≤ a ∧ a < nx S) ∧ Ext S S' ∧ nx S' = nx S + 1 ∧ Kp S S' (fun b => b = a) ∧ LstC ω S' a l c' ∧ ct S' a 1 = nx S ∧ ∀ j, j ≠ 1 → ct S' a j = ct S a j
theorem t_J7_grow_2 (hd : 3 ≤ d) (h : LstC ω S a l c) (hm : c < m) (hc : grC c m ≤ 60000000) (hG : (grC c m).toNat / 5 + 2 ≤ G) (hQ : ∀ S', Grown ω S S' a l (grC c m) → Q (nx S) S') : w_J7_grow_2 ω d G a m S Q := sorry
end LST

/-! 48.lst2.lean.txt -/
/-! ArrayList: its methods -/
set_option maxRecDepth 100000
section LST2
variable {ω : AO} {d G g : Nat} {S S' : AS} {a b i n m f v u x y c : Int} {l : List Int} {Q : Int → AS → Prop} {QV : AS → Prop}
theorem LstC.keep (h : LstC ω S a l c) (E : Ext S S') (h1 : ct S' a 1 = ct S a 1) (h2 : ct S' a 2 = ct S a 2) (h3 : ∀ j, ct S' (ct S a 1) j = ct S (ct S a 1) j) : LstC ω S' a l c := sorry
theorem LstC.ne (h : LstC ω S a l c) : a ≠ ct S a 1 := sorry
theorem LstC.wr0 (h : LstC ω S a l c) : LstC ω (wr S a 0 x) a l c := sorry
theorem t_add_11 (h : LstC ω S a l c) (hi : inI (len l + 1)) (hlt : len l < c) (hx : Rf S x) (hg : g ≤ G)
    (hQ : ∀ S', Kp S S' (fun b => b = a ∨ b = ct S a 1) → LstC ω S' a (l ++ [x]) c → ct S' a 1 = ct S a 1 → (∀ j, j ≠ 2 → ct S' a j = ct S a j) → nx S' = nx S → QV S') : W_J7_add_2_11 ω d G a x (ct S a 1) (len l) g S QV := sorry
theorem adC_ge {c n : Int} (h : c = 0 ∨ 10 ≤ c) (hn : n ≤ c) (h0 : 0 ≤ n) : c ≤ adC c n ∧ n < adC c n ∧ 0 ≤ adC c n := sorry
theorem adC_gas {c n : Int} (h : c = 0 ∨ 10 ≤ c) (e : n = c) : adC c n = grC c (n + 1) ∧ (grC c (n + 1)) / 5 + 2 ≤ adC c n - c := sorry
/-- what an add leaves -/
def Added (ω : AO) (S S' : AS) (a : Int) (l : List Int) (c' : Int) : Prop :=
  Kp S S' (fun b => b = a ∨ b = ct S a 1) ∧ LstC ω S' a l c' ∧ (ct S' a 1 = ct S a 1 ∨ nx S ≤ ct S' a 1) ∧ nx S ≤ nx S'
theorem t_J7_add_2 (hd : 5 ≤ d) (h : LstC ω S a l c) (hx : Rf S x) (hc : adC c (len l) ≤ 60000000) (hG : adC c (len l) - c ≤ (G : Int))
    (hQ : ∀ S', Added ω S S' a (l ++ [x]) (adC c (len l)) → (∀ j, j ≠ 1 → j ≠ 2 → ct S' a j = ct S a j) → QV S') : w_J7_add_2 ω d G a x (ct S a 1) (len l) S QV := sorry
theorem t_J7_add (hd : 6 ≤ d) (h : LstC ω S a l c) (hx : Rf S x) (hc : adC c (len l) ≤ 60000000) (hG : adC c (len l) - c ≤ (G : Int))
    (hQ : ∀ S', Added ω S S' a (l ++ [x]) (adC c (len l)) → ct S' a 0 = wI (ct S a 0 + 1) → Q 1 S') : w_J7_add ω d G a x S Q := sorry
theorem t_J7_size (h : LstC ω S a l c) (hQ : Q (len l) S) : w_J7_size ω d G a S Q := sorry
theorem t_J7_isEmpty (h : LstC ω S a l c) (hQ : ∀ x, x = (if l = [] then 1 else 0) → Q x S) : w_J7_isEmpty ω d G a S Q := sorry
theorem t_J23_checkIndex (hd : 1 ≤ d) (h : 0 ≤ i ∧ i < n) (hn : n < 2147483648) (hQ : Q i S) : w_J23_checkIndex ω d G i n S Q := sorry
theorem t_J7_elementData (h : LstC ω S a l c) (hi : 0 ≤ i ∧ i < len l) (hQ : Q (gt l i) S) : w_J7_elementData ω d G a i S Q := sorry
theorem t_J7_get (hd : 2 ≤ d) (h : LstC ω S a l c) (hi : 0 ≤ i ∧ i < len l) (hQ : Q (gt l i) S) : w_J7_get ω d G a i S Q := sorry
end LST2

/-! 49.lst3.lean.txt -/
/-! rows of numbers; ArrayList: more methods -/
set_option maxRecDepth 100000
theorem gt_out {l : List Int} {k : Int} (h : len l ≤ k) : gt l k = 0 := sorry
theorem gt_appG {l m : List Int} {k : Int} (h0 : 0 ≤ k) : gt (l ++ m) k = if k < len l then gt l k else gt m (k - len l) := sorry
theorem gt_set {l : List Int} {i x k : Int} (hi : 0 ≤ i ∧ i < len l) (h0 : 0 ≤ k) : gt (l.set i.toNat x) k = if k = i then x else gt l k := sorry
theorem len_set {l : List Int} {i : Nat} {x : Int} : len (l.set i x) = len l := by unfold len; rw [List.length_set]
theorem gt_take {l : List Int} {n k : Int} (hn : 0 ≤ n) (h0 : 0 ≤ k) : gt (l.take n.toNat) k = if k < n then gt l k else 0 := sorry
theorem gt_drop {l : List Int} {n k : Int} (hn : 0 ≤ n) (h0 : 0 ≤ k) : gt (l.drop n.toNat) k = gt l (k + n) := sorry
theorem len_take {l : List Int} {n : Int} (hn : 0 ≤ n) : len (l.take n.toNat) = min n (len l) := sorry
theorem len_drop {l : List Int} {n : Int} (hn : 0 ≤ n) : len (l.drop n.toNat) = max 0 (len l - n) := sorry
theorem gt_cons0 {l : List Int} {x : Int} : gt (x :: l) 0 = x := rfl
theorem gt_cons {l : List Int} {x k : Int} (h : 0 < k) : gt (x :: l) k = gt l (k - 1) := sorry
theorem len_cons {l : List Int} {x : Int} : len (x :: l) = len l + 1 := sorry
theorem len_nil : len [] = 0 := rfl
/-- one is put in at a place / taken out -/
def ins (l : List Int) (i x : Int) : List Int := l.take i.toNat ++ x :: l.drop i.toNat
def del (l : List Int) (i : Int) : List Int := l.take i.toNat ++ l.drop (i + 1).toNat
theorem len_ins {l : List Int} {i x : Int} (hi : 0 ≤ i ∧ i ≤ len l) : len (ins l i x) = len l + 1 := sorry
theorem len_del {l : List Int} {i : Int} (hi : 0 ≤ i ∧ i < len l) : len (del l i) = len l - 1 := sorry
theorem gt_ins {l : List Int} {i x k : Int} (hi : 0 ≤ i ∧ i ≤ len l) (h0 : 0 ≤ k) : gt (ins l i x) k = if k < i then gt l k else if k = i then x else gt l (k - 1) := sorry
theorem gt_del {l : List Int} {i k : Int} (hi : 0 ≤ i ∧ i < len l) (h0 : 0 ≤ k) : gt (del l i) k = if k < i then gt l k else gt l (k + 1) := sorry
section LST3
variable {ω : AO} {d G g : Nat} {S S' : AS} {a b i n m f v u x y c : Int} {l l' : List Int} {Q : Int → AS → Prop} {QV : AS → Prop}
theorem LstC.upd (h : LstC ω S a l c) (E : Ext S S') (e1 : ct S' a 1 = ct S a 1) (e2 : ct S' a 2 = len l') (hl : len l' ≤ c) (hd : ∀ j, 0 ≤ j → j < c → ct S' (ct S a 1) j = if j < len l' then gt l' j else -1) (hr : ∀ j, 0 ≤ j → j < len l' → Rf S' (gt l' j)) : LstC ω S' a l' c := sorry
/-- what the data hold at a place -/
theorem LstC.at (h : LstC ω S a l c) {j : Int} (h0 : 0 ≤ j) (h1 : j < c) : ct S (ct S a 1) j = if j < len l then gt l j else -1 := sorry
theorem LstC.rf (h : LstC ω S a l c) {j : Int} (h0 : 0 ≤ j) (h1 : j < len l) : Rf S (gt l j) := (h.2.2.2.2.2.2.2.1 j h0 h1).2
/-- the list alone was altered; its data lie where they lay -/
def Alt (ω : AO) (S S' : AS) (a : Int) (l : List Int) (c : Int) : Prop := Kp S S' (fun b => b = a ∨ b = ct S a 1) ∧ LstC ω S' a l c ∧ ct S' a 1 = ct S a 1 ∧ nx S' = nx S
theorem t_J7_set (hd : 2 ≤ d) (h : LstC ω S a l c) (hi : 0 ≤ i ∧ i < len l) (hx : Rf S x) (hQ : ∀ S', Alt ω S S' a (l.set i.toNat x) c → ct S' a 0 = ct S a 0 → Q (gt l i) S') : w_J7_set ω d G a i x S Q := sorry
theorem t_J7_init (hd : 3 ≤ d) (ht : tg S a = 3) (ha : 0 ≤ a) (hb : bo ω ≤ a) (h1 : tg S (ev ω) = 106) (h2 : ln S (ev ω) = 0) (h3 : ct S a 2 = 0) (hQ : ∀ S', Kp S S' (fun b => b = a) → LstC ω S' a [] 0 → ct S' a 1 = ev ω → nx S' = nx S → QV S') : w_J7_init ω d G a S QV := sorry
theorem t_J7_clear (h : LstC ω S a l c) (hQ : ∀ S', Alt ω S S' a [] c → ct S' a 0 = wI (ct S a 0 + 1) → QV S') : w_J7_clear ω d G a S QV := sorry
theorem t_J7_fastRemove (hd : 1 ≤ d) (h : LstC ω S a l c) (hi : 0 ≤ i ∧ i < len l) (hQ : ∀ S', Alt ω S S' a (del l i) c → ct S' a 0 = wI (ct S a 0 + 1) → QV S') : w_J7_fastRemove ω d G a (ct S a 1) i S QV := sorry
theorem t_J7_remove_2 (hd : 2 ≤ d) (h : LstC ω S a l c) (hi : 0 ≤ i ∧ i < len l) (hQ : ∀ S', Alt ω S S' a (del l i) c → ct S' a 0 = wI (ct S a 0 + 1) → Q (gt l i) S') : w_J7_remove_2 ω d G a i S Q := sorry
end LST3

/-! 49.s1.lean.txt -/
/-! Strings: substring -/
set_option maxRecDepth 100000
section SUB
variable {ω : AO} {d G g : Nat} {S S' : AS} {a b i n m f v u x y c r : Int} {l l' : List Int} {Q : Int → AS → Prop} {QV : AS → Prop}
theorem t_J13_checkFromToIndex (h : 0 ≤ i ∧ i ≤ n ∧ n ≤ m) (hm : m < 2147483648) (hQ : Q i S) : w_J13_checkFromToIndex ω d G i n m f S Q := sorry
theorem t_J2_checkBoundsBeginEnd (hd : 1 ≤ d) (h : 0 ≤ i ∧ i ≤ n ∧ n ≤ m) (hm : m < 2147483648) (hQ : QV S) : w_J2_checkBoundsBeginEnd ω d G i n m S QV := sorry
theorem t_J11_checkLength (h : i ≤ n) (h1 : inI i) (h2 : inI n) (hQ : QV S) : w_J11_checkLength ω d G i n S QV := sorry
/-- a fresh array of bytes -/
def FrB (S S' : AS) (n : Int) (f : Int → Int) : Prop :=
  (∀ a, 0 < tg S a → 0 ≤ a ∧ a < nx S) ∧ Ext S S' ∧ nx S' = nx S + 1 ∧ Kp S S' (fun _ => False) ∧ tg S' (nx S) = 101 ∧ ln S' (nx S) = n ∧ ∀ k, 0 ≤ k → k < n → ct S' (nx S) k = f k
theorem t_J11_copyOfRangeByte (hd : 1 ≤ d) (ht : tg S v = 101) (h : 0 ≤ i ∧ i ≤ n ∧ n ≤ ln S v) (hl : ln S v < 2147483648) (hn : n - i ≤ 60000000) (hG : (n - i).toNat / 5 + 2 ≤ G) (hb : (∀ a, 0 < tg S a → 0 ≤ a ∧ a < nx S) → bo ω ≤ nx S)
    (hQ : ∀ S', FrB S S' (n - i) (fun k => ct S v (i + k)) → Q (nx S) S') : w_J11_copyOfRangeByte ω d G v i n S Q := sorry
theorem t_J11_copyOfRange (hd : 2 ≤ d) (ht : tg S v = 101) (h : 0 ≤ i ∧ i ≤ n ∧ n ≤ ln S v) (hl : ln S v < 2147483648) (hn : n - i ≤ 60000000) (hG : (n - i).toNat / 5 + 2 ≤ G) (hb : (∀ a, 0 < tg S a → 0 ≤ a ∧ a < nx S) → bo ω ≤ nx S)
    (hQ : ∀ S', FrB S S' (n - i) (fun k => ct S v (i + k)) → Q (nx S) S') : w_J11_copyOfRange ω d G v i n S Q := sorry
/-- a String made anew: the string at r, its bytes; nothing else altered -/
def StrN (S S' : AS) (r : Int) (l : List Int) : Prop := nx S ≤ nx S' ∧ Ext S S' ∧ Kp S S' (fun _ => False) ∧ StrC S' r l ∧ nx S ≤ r ∧ nx S ≤ ct S' r 0 ∧ ct S' r 2 = 0 ∧ ct S' r 3 = 0
/-- a part of a row -/
def sub (l : List Int) (i n : Int) : List Int := (l.drop i.toNat).take (n - i).toNat
theorem len_sub (h : 0 ≤ i ∧ i ≤ n ∧ n ≤ len l) : len (sub l i n) = n - i := sorry
theorem gt_sub (h : 0 ≤ i ∧ i ≤ n ∧ n ≤ len l) {k : Int} (k0 : 0 ≤ k) (k1 : k < n - i) : gt (sub l i n) k = gt l (i + k) := sorry
theorem t_J12_newString (hd : 3 ≤ d) (h : Enc S v 0 l) (ht : tg S v = 101) (hl : ln S v < 2147483648) (hi : 0 ≤ i ∧ 0 < n ∧ i + n ≤ len l) (hn : n ≤ 60000000) (hG : n.toNat / 5 + 3 ≤ G) (hb : (∀ a, 0 < tg S a → 0 ≤ a ∧ a < nx S) → bo ω ≤ nx S)
    (hQ : ∀ r S', StrN S S' r (sub l i (i + n)) → Q r S') : w_J12_newString ω d G v i n S Q := sorry
end SUB

/-! 49.s2.lean.txt -/
/-! StringUTF16: compress, newString; String.substring -/
set_option maxRecDepth 100000
theorem or_nat {a b : Nat} (ha : a < 2147483648) (hb : b < 2147483648) : orI (a : Int) (b : Int) = ((a ||| b : Nat) : Int) := sorry
theorem or_nn {x y : Int} (hx : 0 ≤ x ∧ x < 2147483648) (hy : 0 ≤ y ∧ y < 2147483648) : 0 ≤ orI x y ∧ orI x y < 2147483648 := sorry
theorem ushr31 {x : Int} (h : inI x) : ushrI x 31 = if x < 0 then 1 else 0 := sorry
/-- a row of characters in an array, two bytes each / one byte each -/
def U16 (S : AS) (v : Int) (l : List Int) : Prop := tg S v = 101 ∧ ln S v ≤ 100000000 ∧ 2 * len l ≤ ln S v ∧ ∀ k, 0 ≤ k → k < len l → (0 ≤ gt l k ∧ gt l k < 65536) ∧ ct S v (k * 2) = sb (gt l k % 256) ∧ ct S v (k * 2 + 1) = sb (gt l k / 256)
def L8 (S : AS) (v : Int) (l : List Int) : Prop := tg S v = 101 ∧ ln S v ≤ 100000000 ∧ len l ≤ ln S v ∧ ∀ k, 0 ≤ k → k < len l → (0 ≤ gt l k ∧ gt l k < 256) ∧ ct S v k = sb (gt l k)
section CMP
variable {ω : AO} {d G g : Nat} {S S' : AS} {a b i n m f v u x y c r : Int} {l l' : List Int} {Q : Int → AS → Prop} {QV : AS → Prop}
theorem U16.keep (h : U16 S v l) (E : Ext S S') (hk : ∀ j, ct S' v j = ct S v j) : U16 S' v l := sorry
theorem t_gc (h : U16 S v l) (hi : 0 ≤ i ∧ i < len l) (hQ : Q (gt l i) S) : w_J3_getChar ω d G v i S Q := sorry
theorem t_J13_checkFromIndexSize (h : 0 ≤ i ∧ 0 ≤ n ∧ i + n ≤ m) (hm : m < 2147483648) (hQ : Q i S) : w_J13_checkFromIndexSize ω d G i n m f S Q := sorry
theorem t_J2_checkBoundsOffCount (hd : 1 ≤ d) (h : 0 ≤ i ∧ 0 ≤ n ∧ i + n ≤ m) (hm : m < 2147483648) (hQ : Q i S) : w_J2_checkBoundsOffCount ω d G i n m S Q := sorry
theorem t_J3_checkBoundsOffCount (hd : 2 ≤ d) (ht : tg S v = 101) (h : 0 ≤ i ∧ 0 ≤ n ∧ 2 * (i + n) ≤ ln S v) (hm : ln S v < 2147483648) (hQ : QV S) : w_J3_checkBoundsOffCount ω d G i n v S QV := sorry
/-- the part that fits one byte each is written; x: how much of it -/
theorem t_J3_compress_2 (hd : 3 ≤ d) (h : U16 S v l) (hi : 0 ≤ i ∧ 0 ≤ n ∧ i + n ≤ len l) (ht : tg S u = 101) (hu : ln S u = n) (hb : bo ω ≤ u) (hne : v ≠ u)
    (hQ : ∀ x S', 0 ≤ x → x ≤ n → (x < n → 255 < gt l (i + x)) → (∀ k, 0 ≤ k → k < x → gt l (i + k) ≤ 255 ∧ ct S' u k = sb (gt l (i + k))) → (∀ b j, b ≠ u → ct S' b j = ct S b j) → nx S' = nx S → Ext S S' → Q x S') : w_J3_compress_2 ω d G v i u 0 n S Q := sorry
theorem t_J3_newBytesLength (h : 0 ≤ n ∧ n < 1073741823) (hQ : Q (n * 2) S) : w_J3_newBytesLength ω d G n S Q := sorry
/-- an encoding made anew -/
def EncN (S S' : AS) (r : Int) (l : List Int) : Prop := nx S ≤ nx S' ∧ Ext S S' ∧ Kp S S' (fun _ => False) ∧ tg S' r = 101 ∧ nx S ≤ r ∧ ln S' r ≤ 100000000 ∧ ∃ c, (c = 0 ∨ c = 1) ∧ Enc S' r c l
end CMP

/-! 49.s3.lean.txt -/
/-! compress, newString, substring -/
set_option maxRecDepth 100000
section CMP2
variable {ω : AO} {d G g : Nat} {S S' : AS} {a b i n m f v u x y c r : Int} {l l' : List Int} {Q : Int → AS → Prop} {QV : AS → Prop}
theorem t_J3_compress (hd : 4 ≤ d) (h : U16 S v l) (hi : 0 ≤ i ∧ 0 ≤ n ∧ i + n ≤ len l) (hn : n ≤ 30000000) (hG : n.toNat / 5 + (2 * n).toNat / 5 + 4 ≤ G) (hb : bo ω ≤ nx S)
    (hQ : ∀ r S', EncN S S' r (sub l i (i + n)) → Q r S') : w_J3_compress ω d G v i n S Q := sorry
theorem t_J3_coder (h : Enc S v c l) (hc : c = 0 ∨ c = 1) (ht : tg S v = 101) (hl : ln S v < 2147483648) (hQ : Q c S) : w_J3_coderFromArrayLen ω d G v (len l) S Q := sorry
theorem t_J3_newString (hd : 5 ≤ d) (h : U16 S v l) (hi : 0 ≤ i ∧ 0 < n ∧ i + n ≤ len l) (hn : n ≤ 30000000) (hG : n.toNat / 5 + (2 * n).toNat / 5 + 5 ≤ G) (hb : bo ω ≤ nx S)
    (hQ : ∀ r S', StrN S S' r (sub l i (i + n)) → Q r S') : w_J3_newString ω d G v i n S Q := sorry
theorem Enc.U (h : Enc S v 1 l) (ht : tg S v = 101) (hl : ln S v ≤ 100000000) : U16 S v l := sorry
theorem Enc.bnd (h : Enc S v c l) : len l ≤ ln S v := sorry
theorem sub_all : sub l 0 (len l) = l := sorry
theorem t_J2_substring (hd : 6 ≤ d) (h : StrC S a l) (ha : 0 ≤ a) (hl : ln S (ct S a 0) ≤ 30000000) (hi : 0 ≤ i ∧ i ≤ n ∧ n ≤ len l) (hG : (n - i).toNat / 5 + (2 * (n - i)).toNat / 5 + 5 ≤ G) (hb : bo ω ≤ nx S) (he : i < n ∨ ct S a 1 = 0 ∨ l = [])
    (hQ0 : i = 0 → n = len l → Q a S) (hQ1 : i = n → Q (ω.2.2.1 RJ12 151 : Int) S) (hQ : ∀ r S', i < n → StrN S S' r (sub l i n) → Q r S') : w_J2_substring ω d G a i n S Q := sorry
theorem t_J2_substring_2 (hd : 7 ≤ d) (h : StrC S a l) (ha : 0 ≤ a) (hl : ln S (ct S a 0) ≤ 30000000) (hi : 0 ≤ i ∧ i ≤ len l) (hG : (len l - i).toNat / 5 + (2 * (len l - i)).toNat / 5 + 5 ≤ G) (hb : bo ω ≤ nx S) (he : i < len l ∨ ct S a 1 = 0 ∨ l = [])
    (hQ0 : i = 0 → Q a S) (hQ1 : i = len l → Q (ω.2.2.1 RJ12 151 : Int) S) (hQ : ∀ r S', i < len l → StrN S S' r (sub l i (len l)) → Q r S') : w_J2_substring_2 ω d G a i S Q := sorry
end CMP2

/-! 49.t1.lean.txt -/
/-! StringBuilder: room -/
set_option maxRecDepth 100000
theorem shl0 {x : Int} (h : inI x) : shlI x 0 = x := sorry
theorem shl1 {x : Int} (h : inI (x * 2)) : shlI x 1 = x * 2 := sorry
/-- a StringBuilder's cells: what it holds, its capacity in characters, its coder -/
def BldC (ω : AO) (S : AS) (a : Int) (l : List Int) (c e : Int) : Prop :=
  tg S a = 1 ∧ bo ω ≤ a ∧ ct S a 3 = len l ∧ ct S a 1 = e ∧ bo ω ≤ ct S a 0 ∧ tg S (ct S a 0) = 101 ∧ len l ≤ c ∧ 4 ≤ c ∧ c ≤ 20000000 ∧
  ((e = 0 ∧ ln S (ct S a 0) = c ∧ ∀ k, 0 ≤ k → k < len l → (0 ≤ gt l k ∧ gt l k < 256) ∧ ct S (ct S a 0) k = sb (gt l k)) ∨
   (e = 1 ∧ ln S (ct S a 0) = 2 * c ∧ (∀ k, 0 ≤ k → k < len l → (0 ≤ gt l k ∧ gt l k < 65536) ∧ ct S (ct S a 0) (k * 2) = sb (gt l k % 256) ∧ ct S (ct S a 0) (k * 2 + 1) = sb (gt l k / 256)) ∧ (ct S a 2 = 1 ∨ ∃ k, 0 ≤ k ∧ k < len l ∧ 256 ≤ gt l k)))
/-- the capacity once there is room for m -/
def bC (c m : Int) : Int := if c < m then c + max (m - c) (c + 2) else c
/-- what a capacity has cost -/
def bK (c e : Int) : Int := if e = 0 then c else 2 * c
section BLD
variable {ω : AO} {d G g : Nat} {S S' : AS} {a b i n m f v u x y c e r : Int} {l l' : List Int} {Q : Int → AS → Prop} {QV : AS → Prop}
theorem BldC.cd (h : BldC ω S a l c e) : e = 0 ∨ e = 1 := sorry
theorem BldC.ne (h : BldC ω S a l c e) : a ≠ ct S a 0 := sorry
/-- what is needed of the heap for it -/
theorem BldC.keep (h : BldC ω S a l c e) (E : Ext S S') (h0 : ∀ j, ct S' a j = ct S a j) (h3 : ∀ j, ct S' (ct S a 0) j = ct S (ct S a 0) j) : BldC ω S' a l c e := sorry
theorem t_J11_copyOf (hd : 1 ≤ d) (ht : tg S v = 101) (hn : ln S v ≤ n ∧ n ≤ 60000000) (h0 : 0 ≤ ln S v) (hG : n.toNat / 5 + 2 ≤ G) (hb : (∀ a, 0 < tg S a → 0 ≤ a ∧ a < nx S) → bo ω ≤ nx S)
    (hQ : ∀ S', (∀ a, 0 < tg S a → 0 ≤ a ∧ a < nx S) → Ext S S' → nx S' = nx S + 1 → Kp S S' (fun _ => False) → tg S' (nx S) = 101 → ln S' (nx S) = n → (∀ k, 0 ≤ k → k < ln S v → ct S' (nx S) k = ct S v k) → Q (nx S) S') : w_J11_copyOf ω d G v n S Q := sorry
theorem t_J0_newCapacity (hd : 2 ≤ d) (h : BldC ω S a l c e) (hm : c < m) (hc : bC c m ≤ 20000000) (hQ : Q (bC c m) S) : w_J0_newCapacity ω d G a m S Q := sorry
/-- what making room leaves -/
def BKp (ω : AO) (S S' : AS) (a : Int) : Prop := Kp S S' (fun b => b = a ∨ b = ct S a 0) ∧ (ct S' a 0 = ct S a 0 ∨ nx S ≤ ct S' a 0) ∧ nx S ≤ nx S' ∧ Ext S S'
theorem t_J0_ensure (hd : 3 ≤ d) (h : BldC ω S a l c e) (hm : 0 ≤ m ∧ m ≤ 20000000) (hc : bC c m ≤ 20000000) (hG : bK (bC c m) e - bK c e ≤ (G : Int)) (hQ : ∀ S', BldC ω S' a l (bC c m) e → BKp ω S S' a → QV S') : w_J0_ensureCapacityInternal ω d G a m S QV := sorry
end BLD

/-! 49.t2.lean.txt -/
/-! StringBuilder: append of a character -/
set_option maxRecDepth 100000
section BLD2
variable {ω : AO} {d G g : Nat} {S S' : AS} {a b i n m f v u x y c e r : Int} {l l' : List Int} {Q : Int → AS → Prop} {QV : AS → Prop}
theorem t_J3_putChar (ht : tg S u = 101) (hb : bo ω ≤ u) (hi : 0 ≤ i ∧ i * 2 + 1 < ln S u) (hl : ln S u < 2147483648) (hx : 0 ≤ x ∧ x < 65536)
    (hQ : ∀ S', (∀ b j, ct S' b j = if b = u ∧ j = i * 2 then sb (x % 256) else if b = u ∧ j = i * 2 + 1 then sb (x / 256) else ct S b j) → Ext S S' → nx S' = nx S → QV S') : w_J3_putChar ω d G u i x S QV := sorry
theorem t_J3_inflate (hd : 3 ≤ d) (h : L8 S v l) (ht : tg S u = 101) (hb : bo ω ≤ u) (hl : 2 * len l ≤ ln S u ∧ ln S u ≤ 100000000) (hne : v ≠ u)
    (hQ : ∀ S', (∀ k, 0 ≤ k → k < len l → ct S' u (k * 2) = sb (gt l k % 256) ∧ ct S' u (k * 2 + 1) = sb (gt l k / 256)) → (∀ b j, b ≠ u → ct S' b j = ct S b j) → Ext S S' → nx S' = nx S → QV S') : w_J3_inflate ω d G v 0 u 0 (len l) S QV := sorry
/-- a builder, its coder perhaps wider than need be -/
def BldP (ω : AO) (S : AS) (a : Int) (l : List Int) (c e : Int) : Prop :=
  tg S a = 1 ∧ bo ω ≤ a ∧ ct S a 3 = len l ∧ ct S a 1 = e ∧ bo ω ≤ ct S a 0 ∧ tg S (ct S a 0) = 101 ∧ len l ≤ c ∧ 4 ≤ c ∧ c ≤ 20000000 ∧
  ((e = 0 ∧ ln S (ct S a 0) = c ∧ ∀ k, 0 ≤ k → k < len l → (0 ≤ gt l k ∧ gt l k < 256) ∧ ct S (ct S a 0) k = sb (gt l k)) ∨
   (e = 1 ∧ ln S (ct S a 0) = 2 * c ∧ (∀ k, 0 ≤ k → k < len l → (0 ≤ gt l k ∧ gt l k < 65536) ∧ ct S (ct S a 0) (k * 2) = sb (gt l k % 256) ∧ ct S (ct S a 0) (k * 2 + 1) = sb (gt l k / 256))))
theorem BldC.P (h : BldC ω S a l c e) : BldP ω S a l c e := sorry
theorem BldP.C (h : BldP ω S a l c e) (hc : e = 1 → ct S a 2 = 1 ∨ ∃ k, 0 ≤ k ∧ k < len l ∧ 256 ≤ gt l k) : BldC ω S a l c e := sorry
theorem BldC.big (h : BldC ω S a l c 1) : ct S a 2 = 1 ∨ ∃ k, 0 ≤ k ∧ k < len l ∧ 256 ≤ gt l k := sorry
theorem BldP.ne (h : BldP ω S a l c e) : a ≠ ct S a 0 := sorry
theorem t_app_56 (hd : 4 ≤ d) (h : BldP ω S a l c 1) (hlt : len l < c) (hx : 0 ≤ x ∧ x < 65536) (ha : 0 ≤ a) (hg : g ≤ G)
    (hQ : ∀ S', BldP ω S' a (l ++ [x]) c 1 → BKp ω S S' a → ct S' a 2 = ct S a 2 → Q a S') : W_J0_append_56 ω d G a x g S Q := sorry
theorem t_J3_newBytesFor (hd : 1 ≤ d) (h : 0 ≤ n ∧ n ≤ 30000000) (hG : (n * 2).toNat / 5 + 2 ≤ G) (hQ : ∀ S', (∀ a, 0 < tg S a → 0 ≤ a ∧ a < nx S) → S' = nw S 101 (n * 2) → Q (nx S) S') (h0 : 0 ≤ nx S) : w_J3_newBytesFor ω d G n S Q := sorry
theorem t_J0_isLatin1 (h : tg S a = 1) (hQ : ∀ x, x = (if ct S a 1 = 0 then 1 else 0) → Q x S) : w_J0_isLatin1 ω d G a S Q := sorry
theorem t_J0_inflate (hd : 5 ≤ d) (h : BldP ω S a l c 0) (h0 : 0 ≤ nx S ∧ bo ω ≤ nx S) (hG : c ≤ (G : Int)) (hQ : ∀ S', BldP ω S' a l c 1 → BKp ω S S' a → QV S') : w_J0_inflate ω d G a S QV := sorry
end BLD2

/-! 49.t3.lean.txt -/
/-! StringBuilder: append of a character, toString, new -/
set_option maxRecDepth 100000
section BLD3
variable {ω : AO} {d G g : Nat} {S S' S1 S2 : AS} {a b i n m f v u x y c e r : Int} {l l' : List Int} {Q : Int → AS → Prop} {QV : AS → Prop}
theorem BKp.tr (h : BKp ω S S1 a) (h2 : BKp ω S1 S2 a) : BKp ω S S2 a := sorry
theorem t_app_45 (hd : 6 ≤ d) (h : BldC ω S a l c e) (hlt : len l < c) (hx : 0 ≤ x ∧ x < 65536) (hex : e = 1 ∨ 255 < x) (ha : 0 ≤ a) (h0 : 0 ≤ nx S ∧ bo ω ≤ nx S) (hg : (g : Int) + (bK c 1 - bK c e) ≤ (G : Int))
    (hQ : ∀ S', BldC ω S' a (l ++ [x]) c 1 → BKp ω S S' a → Q a S') : W_J0_append_45 ω d G a x g S Q := sorry
theorem bK_mono (h : c ≤ m) (h0 : 0 ≤ c) (he : e = 0 ∨ e = 1) (hx : 255 < x ∨ x ≤ 255) : bK c e ≤ bK m e ∧ bK m e ≤ bK m (if x ≤ 255 then e else 1) := sorry
theorem bC_ge (h : 4 ≤ c) : c ≤ bC c m ∧ m ≤ bC c m := sorry
theorem t_J0_append (hd : 7 ≤ d) (h : BldC ω S a l c e) (hx : 0 ≤ x ∧ x < 65536) (ha : 0 ≤ a) (h0 : 0 ≤ nx S ∧ bo ω ≤ nx S) (hc : bC c (len l + 1) ≤ 20000000) (hG : bK (bC c (len l + 1)) (if x ≤ 255 then e else 1) - bK c e ≤ (G : Int))
    (hQ : ∀ S', BldC ω S' a (l ++ [x]) (bC c (len l + 1)) (if x ≤ 255 then e else 1) → BKp ω S S' a → Q a S') : w_J0_append ω d G a x S Q := sorry
theorem t_J1_append (hd : 8 ≤ d) (h : BldC ω S a l c e) (hx : 0 ≤ x ∧ x < 65536) (ha : 0 ≤ a) (h0 : 0 ≤ nx S ∧ bo ω ≤ nx S) (hc : bC c (len l + 1) ≤ 20000000) (hG : bK (bC c (len l + 1)) (if x ≤ 255 then e else 1) - bK c e ≤ (G : Int))
    (hQ : ∀ S', BldC ω S' a (l ++ [x]) (bC c (len l + 1)) (if x ≤ 255 then e else 1) → BKp ω S S' a → Q a S') : w_J1_append ω d G a x S Q := sorry
theorem t_J1_init (hd : 2 ≤ d) (ht : tg S a = 1) (ha : 0 ≤ a) (hb : bo ω ≤ a) (h3 : ct S a 3 = 0) (hG : 5 ≤ G) (hQ : ∀ S', BldC ω S' a [] 16 0 → Kp S S' (fun b => b = a) → nx S ≤ ct S' a 0 → nx S ≤ nx S' → QV S') : w_J1_init ω d G a S QV := sorry
end BLD3

/-! 49.t4.lean.txt -/
/-! StringBuilder: toString, length, charAt, setLength -/
set_option maxRecDepth 100000
section BLD4
variable {ω : AO} {d G g : Nat} {S S' S1 S2 : AS} {a b i n m f v u x y c e r : Int} {l l' : List Int} {Q : Int → AS → Prop} {QV : AS → Prop}
theorem t_J1_length (hd : 1 ≤ d) (h : BldC ω S a l c e) (hQ : Q (len l) S) : w_J1_length ω d G a S Q := sorry
theorem sub_0 : sub l 0 (0 + len l) = l := by rw [Int.zero_add]; exact sub_all
theorem t_J1_toString (hd : 7 ≤ d) (h : BldC ω S a l c e) (h0 : bo ω ≤ nx S) (hG : (len l).toNat / 5 + (2 * len l).toNat / 5 + 5 ≤ G) (hQ : ∀ S', StrN S S' (nx S) l → Q (nx S) S') : w_J1_toString ω d G a S Q := sorry
end BLD4

/-! 49.t5.lean.txt -/
/-! StringBuilder: append of a String -/
set_option maxRecDepth 100000
/-- 1 if a row has a character beyond one byte -/
def wide (l : List Int) : Int := if ∀ x ∈ l, x < 256 then 0 else 1
theorem mem_gt {l : List Int} {x : Int} (h : x ∈ l) : ∃ k, 0 ≤ k ∧ k < len l ∧ gt l k = x := sorry
theorem gt_mem {l : List Int} {k : Int} (h0 : 0 ≤ k) (h1 : k < len l) : gt l k ∈ l := by
  rw [gt_get h0 h1]; exact List.getElem_mem _
theorem wide0 {l : List Int} (h : ∀ k, 0 ≤ k → k < len l → gt l k < 256) : wide l = 0 := sorry
theorem wide1 {l : List Int} (h : ∃ k, 0 ≤ k ∧ k < len l ∧ 256 ≤ gt l k) : wide l = 1 := sorry
theorem Enc.wide {S : AS} {v c : Int} {l : List Int} (h : Enc S v c l) : c = wide l := sorry
theorem StrC.wide {S : AS} {a : Int} {l : List Int} (h : StrC S a l) : ct S a 1 = wide l := h.2.2.wide
section BLD5
variable {ω : AO} {d G g : Nat} {S S' S1 S2 : AS} {a b i n f v u x y c e r p s : Int} {l m : List Int} {Q : Int → AS → Prop} {QV : AS → Prop}
theorem t_J3_inflateG (hd : 3 ≤ d) (h : L8 S v l) (ht : tg S u = 101) (hb : bo ω ≤ u) (hp : 0 ≤ p) (hl : 2 * (p + len l) ≤ ln S u ∧ ln S u ≤ 100000000) (hne : v ≠ u)
    (hQ : ∀ S', (∀ k, 0 ≤ k → k < len l → ct S' u ((p + k) * 2) = sb (gt l k % 256) ∧ ct S' u ((p + k) * 2 + 1) = sb (gt l k / 256)) → (∀ j, j < p * 2 → ct S' u j = ct S u j) → (∀ b j, b ≠ u → ct S' b j = ct S b j) → Ext S S' → nx S' = nx S → QV S') : w_J3_inflate ω d G v 0 u p (len l) S QV := sorry
/-- a string's characters come to a place of an array of coder e -/
theorem t_J2_getBytes (hd : 5 ≤ d) (h : StrC S s m) (hl : ln S (ct S s 0) ≤ 30000000) (ht : tg S u = 101) (hb : bo ω ≤ u) (hp : 0 ≤ p) (he : e = 0 ∨ e = 1) (hw : wide m ≤ e) (hu : (if e = 0 then p + len m else 2 * (p + len m)) ≤ ln S u ∧ ln S u ≤ 100000000) (hne : ct S s 0 ≠ u)
    (hQ : ∀ S', (e = 0 → ∀ k, 0 ≤ k → k < len m → ct S' u (p + k) = sb (gt m k)) → (e = 1 → ∀ k, 0 ≤ k → k < len m → (0 ≤ gt m k ∧ gt m k < 65536) ∧ ct S' u ((p + k) * 2) = sb (gt m k % 256) ∧ ct S' u ((p + k) * 2 + 1) = sb (gt m k / 256)) → (∀ j, j < (if e = 0 then p else p * 2) → ct S' u j = ct S u j) → (∀ b j, b ≠ u → ct S' b j = ct S b j) → Ext S S' → nx S' = nx S → QV S') : w_J2_getBytes ω d G s u p e S QV := sorry
end BLD5

/-! 49.t6.lean.txt -/
/-! StringBuilder: append of a String, the whole -/
set_option maxRecDepth 100000
section BLD6
variable {ω : AO} {d G g : Nat} {S S' S1 S2 : AS} {a b i n f v u x y c e r p s : Int} {l m : List Int} {Q : Int → AS → Prop} {QV : AS → Prop}
theorem wide_01 : wide l = 0 ∨ wide l = 1 := sorry
theorem Enc.keep {c : Int} (h : Enc S v c l) (ht : tg S v = 101) (E : Ext S S') (hk : ∀ j, ct S' v j = ct S v j) : Enc S' v c l := sorry
theorem StrC.keep (h : StrC S s m) (E : Ext S S') (h1 : ∀ j, ct S' s j = ct S s j) (h2 : ∀ j, ct S' (ct S s 0) j = ct S (ct S s 0) j) : StrC S' s m := sorry
theorem BldC.wkeep (h : BldC ω S a l c e) : (e = 1 → ct S a 2 = 1 ∨ wide l = 1) := sorry
theorem t_J0_inflateIf (hd : 6 ≤ d) (h : BldC ω S a l c e) (hs : StrC S s m) (h0 : 0 ≤ nx S ∧ bo ω ≤ nx S) (hG : bK c (max e (wide m)) - bK c e ≤ (G : Int))
    (hQ : ∀ S', BldP ω S' a l c (max e (wide m)) → BKp ω S S' a → (e = 1 → S' = S) → QV S') : w_J0_inflateIfNeededFor ω d G a s S QV := sorry
theorem gt_appL {k : Int} (h0 : 0 ≤ k) : gt (l ++ m) k = if k < len l then gt l k else gt m (k - len l) := gt_appG h0
theorem t_J0_append_3 (hd : 9 ≤ d) (h : BldC ω S a l c e) (hs : StrC S s m) (hs0 : 0 ≤ s) (ha : 0 ≤ a) (hlm : ln S (ct S s 0) ≤ 30000000) (hd2 : ct S s 0 ≠ ct S a 0) (hwf : s < nx S ∧ ct S s 0 < nx S) (h0 : 0 ≤ nx S ∧ bo ω ≤ nx S) (hc : bC c (len l + len m) ≤ 20000000) (hG : bK (bC c (len l + len m)) (max e (wide m)) - bK c e ≤ (G : Int))
    (hQ : ∀ S', BldC ω S' a (l ++ m) (bC c (len l + len m)) (max e (wide m)) → BKp ω S S' a → Q a S') : w_J0_append_3 ω d G a s S Q := sorry
end BLD6

/-! 49.t7.lean.txt -/
/-! StringBuilder: the rest that is used -/
set_option maxRecDepth 100000
section BLD7
variable {ω : AO} {d G g : Nat} {S S' S1 S2 : AS} {a b i n f v u x y c e r p s : Int} {l m : List Int} {Q : Int → AS → Prop} {QV : AS → Prop}
theorem t_J1_append_3 (hd : 10 ≤ d) (h : BldC ω S a l c e) (hs : StrC S s m) (hs0 : 0 ≤ s) (ha : 0 ≤ a) (hlm : ln S (ct S s 0) ≤ 30000000) (hd2 : ct S s 0 ≠ ct S a 0) (hwf : s < nx S ∧ ct S s 0 < nx S) (h0 : 0 ≤ nx S ∧ bo ω ≤ nx S) (hc : bC c (len l + len m) ≤ 20000000) (hG : bK (bC c (len l + len m)) (max e (wide m)) - bK c e ≤ (G : Int))
    (hQ : ∀ S', BldC ω S' a (l ++ m) (bC c (len l + len m)) (max e (wide m)) → BKp ω S S' a → Q a S') : w_J1_append_3 ω d G a s S Q := sorry
theorem t_J1_append_5 (hd : 11 ≤ d) (h : BldC ω S a l c e) (hs : StrC S s m) (hs0 : 0 ≤ s) (ha : 0 ≤ a) (hlm : ln S (ct S s 0) ≤ 30000000) (hd2 : ct S s 0 ≠ ct S a 0) (hwf : s < nx S ∧ ct S s 0 < nx S) (h0 : 0 ≤ nx S ∧ bo ω ≤ nx S) (hc : bC c (len l + len m) ≤ 20000000) (hG : bK (bC c (len l + len m)) (max e (wide m)) - bK c e ≤ (G : Int))
    (hQ : ∀ S', BldC ω S' a (l ++ m) (bC c (len l + len m)) (max e (wide m)) → BKp ω S S' a → Q a S') : w_J1_append_5 ω d G a s S Q := sorry
theorem t_J1_charAt (hd : 3 ≤ d) (h : BldC ω S a l c e) (hi : 0 ≤ i ∧ i < len l) (hQ : Q (gt l i) S) : w_J1_charAt ω d G a i S Q := sorry
theorem t_J1_setLength (hd : 5 ≤ d) (h : BldC ω S a l c e) (hn : 0 ≤ n ∧ n ≤ len l) (hQ : ∀ S', BldC ω S' a (l.take n.toNat) c e → BKp ω S S' a → QV S') : w_J1_setLength ω d G a n S QV := sorry
end BLD7

/-! 49.u1.lean.txt -/
/-! ArrayList: add at a place, iterators; Integer -/
set_option maxRecDepth 100000
section LST4
variable {ω : AO} {d G g : Nat} {S S' S1 S2 : AS} {a b i n f v u x y c e r p s q : Int} {l m : List Int} {Q : Int → AS → Prop} {QV : AS → Prop}
theorem t_add3_38 (hd : 1 ≤ d) (h : LstC ω S a l c) (hi : 0 ≤ i ∧ i ≤ len l) (hr : inI (len l + 1)) (hlt : len l < c) (hx : Rf S x) (hg : g ≤ G)
    (hQ : ∀ S', Kp S S' (fun b => b = a ∨ b = ct S a 1) → LstC ω S' a (ins l i x) c → ct S' a 1 = ct S a 1 → (∀ j, j ≠ 2 → ct S' a j = ct S a j) → nx S' = nx S → QV S') : W_J7_add_3_38 ω d G a i x (len l) (ct S a 1) g S QV := sorry
theorem t_J7_add_3 (hd : 6 ≤ d) (h : LstC ω S a l c) (hi : 0 ≤ i ∧ i ≤ len l) (hx : Rf S x) (hc : adC c (len l) ≤ 60000000) (hG : adC c (len l) - c ≤ (G : Int))
    (hQ : ∀ S', Added ω S S' a (ins l i x) (adC c (len l)) → ct S' a 0 = wI (ct S a 0 + 1) → QV S') : w_J7_add_3 ω d G a i x S QV := sorry
/-- an iterator over the list at a, at place k -/
def ItC (ω : AO) (S : AS) (q a k : Int) : Prop := tg S q = 14 ∧ bo ω ≤ q ∧ ct S q 0 = k ∧ ct S q 3 = a ∧ ct S q 2 = ct S a 0
theorem t_J7_iterator (hd : 2 ≤ d) (h : LstC ω S a l c) (hb : bo ω ≤ nx S) (hG : 1 ≤ G) (ha : -1 ≤ a) (hQ : ∀ S', Kp S S' (fun _ => False) → ItC ω S' (nx S) a 0 → nx S' = nx S + 1 → Ext S S' → Q (nx S) S') : w_J7_iterator ω d G a S Q := sorry
theorem t_J31_hasNext (h : ItC ω S q a x) (hl : LstC ω S a l c) (hQ : ∀ z, z = (if x = len l then 0 else 1) → Q z S) : w_J31_hasNext ω d G q S Q := sorry
theorem t_J31_next (hd : 1 ≤ d) (h : ItC ω S q a x) (hl : LstC ω S a l c) (hx : 0 ≤ x ∧ x < len l) (hqa : q ≠ ct S a 1) (hQ : ∀ S', Kp S S' (fun b => b = q) → ItC ω S' q a (x + 1) → nx S' = nx S → Ext S S' → Q (gt l x) S') : w_J31_next ω d G q S Q := sorry
theorem t_J19_intValue (h : tg S a = 7) (hQ : Q (ct S a 0) S) : w_J19_intValue ω d G a S Q := s_J19_intValue ⟨h, fun v1 e1 r1 => by rw [e1]; exact hQ⟩
end LST4

/-! 49.v1.lean.txt -/
/-! String.indexOf of a character -/
set_option maxRecDepth 100000
def idxF (x : Int) : List Int → Int → Int
  | [], _ => -1
  | y :: r, p => if y = x then p else idxF x r (p + 1)
/-- the first place of x in l from i on; -1 -/
def idx (l : List Int) (x i : Int) : Int := idxF x (l.drop (max i 0).toNat) (max i 0)
theorem idxF_no {x : Int} : ∀ (l : List Int) (p : Int), (∀ k, 0 ≤ k → k < len l → gt l k ≠ x) → idxF x l p = -1 := sorry
theorem idxF_at {x : Int} : ∀ (l : List Int) (p r : Int), 0 ≤ r → r < len l → gt l r = x → (∀ k, 0 ≤ k → k < r → gt l k ≠ x) → idxF x l p = p + r := sorry
theorem idx_no {l : List Int} {x i : Int} (h : ∀ k, max i 0 ≤ k → k < len l → gt l k ≠ x) : idx l x i = -1 := sorry
theorem idx_at {l : List Int} {x i r : Int} (h0 : max i 0 ≤ r) (h1 : r < len l) (h2 : gt l r = x) (h : ∀ k, max i 0 ≤ k → k < r → gt l k ≠ x) : idx l x i = r := sorry
section IDX
variable {ω : AO} {d G g : Nat} {S S' S1 S2 : AS} {a b i n f v u x y c e r p s q : Int} {l m : List Int} {Q : Int → AS → Prop} {QV : AS → Prop}
theorem t_J12_indexOfChar (h : L8 S v l) (hx : 0 ≤ x ∧ x < 256) (hi : 0 ≤ i) (hn : i ≤ len l) (hQ : Q (idx l x i) S) : w_J12_indexOfChar ω d G v x i (len l) S Q := sorry
theorem t_J3_indexOfCharUnsafe (hd : 1 ≤ d) (h : U16 S v l) (hx : inI x) (hi : 0 ≤ i) (hn : i ≤ len l) (hQ : Q (idx l x i) S) : w_J3_indexOfCharUnsafe ω d G v x i (len l) S Q := sorry
theorem t_J3_checkBoundsBeginEnd (hd : 2 ≤ d) (ht : tg S v = 101) (h : 0 ≤ i ∧ i ≤ n ∧ 2 * n ≤ ln S v) (hm : ln S v < 2147483648) (hQ : QV S) : w_J3_checkBoundsBeginEnd ω d G i n v S QV := sorry
theorem t_J2_indexOf_2 (hd : 5 ≤ d) (h : StrC S a l) (hl : ln S (ct S a 0) ≤ 30000000) (hx : 0 ≤ x ∧ x < 65536) (hi : inI i) (hQ : Q (idx l x i) S) : w_J2_indexOf_2 ω d G a x i S Q := sorry
theorem t_J2_indexOf_3 (hd : 6 ≤ d) (h : StrC S a l) (hl : ln S (ct S a 0) ≤ 30000000) (hx : 0 ≤ x ∧ x < 65536) (hQ : Q (idx l x 0) S) : w_J2_indexOf_3 ω d G a x S Q := sorry
end IDX

/-! 49.v2.lean.txt -/
/-! String.startsWith, endsWith with short literals -/
set_option maxRecDepth 100000
/-- m stands in l at i -/
def pAt (l m : List Int) (i : Int) : Prop := 0 ≤ i ∧ i + len m ≤ len l ∧ ∀ k, 0 ≤ k → k < len m → gt l (i + k) = gt m k
theorem pAt_sub {l m : List Int} {i : Int} (h0 : 0 ≤ i) (h1 : i + len m ≤ len l) : pAt l m i ↔ sub l i (i + len m) = m := sorry
section STW
variable {ω : AO} {d G g : Nat} {S S' S1 S2 : AS} {a b i n f v u x y c e r p s q : Int} {l m : List Int} {Q : Int → AS → Prop} {QV : AS → Prop}
theorem t_J10_mismatch_2 (h1 : tg S v = 101) (h2 : tg S u = 101) (hn : 0 ≤ n ∧ n ≤ 7) (hp : 0 ≤ p) (hq : 0 ≤ q) (hv : p + n ≤ ln S v) (hu : q + n ≤ ln S u) (hQ1 : (∀ k, 0 ≤ k → k < n → ct S v (p + k) = ct S u (q + k)) → Q (-1) S) (hQ0 : ∀ x, 0 ≤ x → x < n → ct S v (p + x) ≠ ct S u (q + x) → Q x S) : w_J10_mismatch_2 ω d G v p u q n S Q := sorry
theorem t_J2_startsWith (hd : 3 ≤ d) (h : StrC S a l) (hs : StrC S s m) (hl : ln S (ct S a 0) ≤ 30000000) (hw : wide m = 0) (hm : len m ≤ 7) (hi : inI i) (hQ1 : pAt l m i → Q 1 S) (hQ0 : ¬ pAt l m i → Q 0 S) : w_J2_startsWith ω d G a s i S Q := sorry
theorem t_J2_startsWith_2 (hd : 4 ≤ d) (h : StrC S a l) (hs : StrC S s m) (hl : ln S (ct S a 0) ≤ 30000000) (hw : wide m = 0) (hm : len m ≤ 7) (hQ1 : pAt l m 0 → Q 1 S) (hQ0 : ¬ pAt l m 0 → Q 0 S) : w_J2_startsWith_2 ω d G a s S Q := sorry
theorem t_J2_endsWith (hd : 4 ≤ d) (h : StrC S a l) (hs : StrC S s m) (hl : ln S (ct S a 0) ≤ 30000000) (hw : wide m = 0) (hm : len m ≤ 7) (hQ1 : pAt l m (len l - len m) → Q 1 S) (hQ0 : ¬ pAt l m (len l - len m) → Q 0 S) : w_J2_endsWith ω d G a s S Q := sorry
end STW

/-! 49.v3.lean.txt -/
/-! ArrayList.indexOf, contains, remove of an object that is equal to itself alone -/
set_option maxRecDepth 100000
section LIX
variable {ω : AO} {d G g : Nat} {S S' S1 S2 : AS} {a b i n f v u x y c e r p s q : Int} {l m : List Int} {Q : Int → AS → Prop} {QV : AS → Prop}
theorem t_J33_equals (hx : -1 ≤ x) (hy : -1 ≤ y) (hQ : ∀ z, z = (if x = y then 1 else 0) → Q z S) : w_J33_equals ω d G x y S Q := sorry
theorem t_J7_indexOf (hd : 2 ≤ d) (h : LstC ω S a l c) (hx : 0 ≤ x) (ht : tg S x = 26 ∨ tg S x = 35 ∨ tg S x = 65) (hQ : Q (idx l x 0) S) : w_J7_indexOf ω d G a x S Q := sorry
theorem t_J7_contains (hd : 3 ≤ d) (h : LstC ω S a l c) (hx : 0 ≤ x) (ht : tg S x = 26 ∨ tg S x = 35 ∨ tg S x = 65) (hQ : ∀ z, z = (if 0 ≤ idx l x 0 then 1 else 0) → Q z S) : w_J7_contains ω d G a x S Q := sorry
end LIX

/-! 49.v4.lean.txt -/
/-! ArrayList.addAll; Integer.valueOf -/
set_option maxRecDepth 100000
/-- the capacity once k more were put at the end of n -/
def alC (c n k : Int) : Int := if c - n < k then grC c (n + k) else c
section ALL
variable {ω : AO} {d G g : Nat} {S S' S1 S2 : AS} {a b i n f v u x y c e r p s q c2 : Int} {l m : List Int} {Q : Int → AS → Prop} {QV : AS → Prop}
theorem alC_gas (h : c = 0 ∨ 10 ≤ c) (hn : 0 ≤ n ∧ n ≤ c) (hk : c - n < x) : alC c n x = grC c (n + x) ∧ (grC c (n + x)) / 5 + 2 ≤ alC c n x - c ∧ c < n + x ∧ n + x ≤ grC c (n + x) := sorry
theorem t_all_56 (hd : 1 ≤ d) (h : LstC ω S a l c) (hu : tg S u = 101 + 5) (hlu : ln S u = len m) (hm : ∀ k, 0 ≤ k → k < len m → ct S u k = gt m k ∧ Rf S (gt m k)) (hfit : len l + len m ≤ c) (hpos : 0 < len m) (hr : inI (len l + len m)) (hune : u ≠ ct S a 1) (hg : g ≤ G)
    (hQ : ∀ S', Kp S S' (fun b => b = a ∨ b = ct S a 1) → LstC ω S' a (l ++ m) c → ct S' a 1 = ct S a 1 → (∀ j, j ≠ 2 → ct S' a j = ct S a j) → nx S' = nx S → Q 1 S') : W_J7_addAll_56 ω d G a u (len m) (ct S a 1) (len l) g S Q := sorry
theorem t_J7_addAll (hd : 4 ≤ d) (h : LstC ω S a l c) (hb : LstC ω S b m c2) (hba : -1 ≤ b) (hlm : len m ≤ 20000000) (hc : alC c (len l) (len m) ≤ 60000000) (hG : (len m).toNat / 5 + 2 + (alC c (len l) (len m) - c) ≤ (G : Int))
    (hQ : ∀ S', Added ω S S' a (l ++ m) (alC c (len l) (len m)) → Q (if len m = 0 then 0 else 1) S') : w_J7_addAll ω d G a b S Q := sorry
end ALL

/-! 49.v5.lean.txt -/
/-! Integer.valueOf -/
set_option maxRecDepth 100000
/-- the cache of small Integers -/
def ic (ω : AO) : Int := (ω.2.2.1 "#V" 6 : Int) - 1
def IcC (ω : AO) (S : AS) : Prop := tg S (ic ω) = 110 ∧ ln S (ic ω) = 256 ∧ ∀ k, 0 ≤ k → k < 256 → tg S (ct S (ic ω) k) = 7 ∧ ct S (ct S (ic ω) k) 0 = k - 128
section VAL
variable {ω : AO} {d G g : Nat} {S S' S1 S2 : AS} {a b i n f v u x y c e r p s q c2 : Int} {l m : List Int} {Q : Int → AS → Prop} {QV : AS → Prop}
theorem t_J19_valueOf (hd : 4 ≤ d) (hI : IcC ω S) (hn : inI n) (hb : bo ω ≤ nx S) (h0 : 0 ≤ nx S) (hG : 1 ≤ G) (hQ : ∀ r S', Kp S S' (fun _ => False) → Ext S S' → nx S ≤ nx S' → tg S' r = 7 → ct S' r 0 = n → (S' = S ∧ -128 ≤ n ∧ n ≤ 127 ∧ r = ct S (ic ω) (n + 128) ∨ r = nx S ∧ nx S' = nx S + 1) → Q r S') : w_J19_valueOf ω d G n S Q := sorry
end VAL

/-! 49.v6.lean.txt -/
/-! String.lastIndexOf of a character (one byte each) -/
set_option maxRecDepth 100000
/-- r is the last place of x in l, or -1 -/
def IsLast (l : List Int) (x r : Int) : Prop := (r = -1 ∨ 0 ≤ r ∧ r < len l ∧ gt l r = x) ∧ ∀ k, r < k → 0 ≤ k → k < len l → gt l k ≠ x
section LAST
variable {ω : AO} {d G g : Nat} {S S' S1 S2 : AS} {a b i n f v u x y c e r p s q c2 : Int} {l m : List Int} {Q : Int → AS → Prop} {QV : AS → Prop}
theorem t_J2_lastIndexOf (hd : 4 ≤ d) (h : StrC S a l) (hl : ln S (ct S a 0) ≤ 30000000) (hw : wide l = 0) (hx : 0 ≤ x ∧ x < 256) (hQ : ∀ r, IsLast l x r → Q r S) : w_J2_lastIndexOf ω d G a x S Q := sorry
end LAST

/-! 49.v7.lean.txt -/
/-! ArrayList.remove of an object that is equal to itself alone -/
set_option maxRecDepth 100000
section LRM
variable {ω : AO} {d G g : Nat} {S S' S1 S2 : AS} {a b i n f v u x y c e r p s q : Int} {l m : List Int} {Q : Int → AS → Prop} {QV : AS → Prop}
theorem t_J7_remove (hd : 2 ≤ d) (h : LstC ω S a l c) (hx : 0 ≤ x) (ht : tg S x = 26 ∨ tg S x = 35 ∨ tg S x = 65) (hQ0 : idx l x 0 = -1 → Q 0 S) (hQ1 : ∀ S', 0 ≤ idx l x 0 → idx l x 0 < len l → Alt ω S S' a (del l (idx l x 0)) c → ct S' a 0 = wI (ct S a 0 + 1) → Q 1 S') : w_J7_remove ω d G a x S Q := sorry
end LRM

/-! 49.w0.lean.txt -/
/-! the Strings that stand in the code; rows of numbers -/
set_option maxRecDepth 100000
def lit_ : List (String × Nat × List Int) := [(RX1, 56, [65, 66, 67, 68, 69, 70, 71, 72, 73, 74, 75, 76, 77, 78, 79, 80, 81, 82, 83, 84, 85, 86, 87, 88, 89, 90, 97, 98, 99, 100, 101, 102, 103, 104, 105, 106, 107, 108, 109, 110, 111, 112, 113, 114, 115, 116, 117, 118, 119, 120, 121, 122, 48, 49, 50, 51, 52, 53, 54, 55, 56, 57, 43, 47]),
  (RX1, 101, [45, 45]),
  (RX1, 118, [119, 114, 111, 116, 101]),
  (RX1, 124, [115, 99, 104, 114, 105, 101, 98]),
  (RX1, 141, [70, 114, 111, 109, 32]),
  (RX1, 176, [117, 110, 114, 101, 97, 100]),
  (RX1, 181, [102, 108, 97, 103, 103, 101, 100]),
  (RX1, 183, [114, 101, 112, 108, 105, 101, 100]),
  (RX1, 185, [116, 114, 97, 115, 104, 101, 100]),
  (RX1, 187, [100, 114, 97, 102, 116]),
  (RX1, 189, [112, 97, 115, 115, 101, 100]),
  (RX1, 207, [102, 114, 111, 109]),
  (RX1, 208, [116, 111]),
  (RX1, 210, [115, 117, 98, 106, 101, 99, 116]),
  (RX1, 212, [98, 111, 100, 121]),
  (RX1, 214, [116, 97, 103]),
  (RX1, 216, [105, 100]),
  (RX1, 218, [112, 97, 116, 104]),
  (RX1, 220, [116, 121, 112, 101]),
  (RX1, 222, [97, 116, 116, 97, 99, 104, 109, 101, 110, 116]),
  (RX1, 224, [105, 115]),
  (RX1, 226, [100, 97, 116, 101]),
  (RX1, 228, [115, 105, 122, 101]),
  (RX26, 101, []),
  (RX26, 129, [91]),
  (RX26, 135, [93]),
  (RX55, 43, [117, 110, 114, 101, 97, 100]),
  (RX55, 49, [102, 108, 97, 103, 103, 101, 100]),
  (RX55, 51, [114, 101, 112, 108, 105, 101, 100]),
  (RX55, 53, [101, 110, 99, 114, 121, 112, 116, 101, 100]),
  (RX3, 37, [117, 115, 45, 97, 115, 99, 105, 105]),
  (RX3, 43, [97, 115, 99, 105, 105]),
  (RX3, 45, [105, 115, 111, 54, 52, 54, 45, 117, 115]),
  (RX3, 47, [97, 110, 115, 105, 95, 120, 51, 46, 52, 45, 49, 57, 54, 56]),
  (RX3, 49, [99, 112, 51, 54, 55]),
  (RX3, 51, [105, 115, 111, 45, 56, 56, 53, 57, 45, 49]),
  (RX3, 53, [105, 115, 111, 56, 56, 53, 57, 45, 49]),
  (RX3, 55, [108, 97, 116, 105, 110, 49]),
  (RX3, 57, [108, 49]),
  (RX3, 59, [99, 112, 56, 49, 57]),
  (RX3, 61, [105, 115, 111, 45, 56, 56, 53, 57, 45, 49, 53]),
  (RX3, 63, [105, 115, 111, 56, 56, 53, 57, 45, 49, 53]),
  (RX3, 65, [108, 97, 116, 105, 110, 57]),
  (RX3, 67, [108, 97, 116, 105, 110, 45, 57]),
  (RX3, 69, [119, 105, 110, 100, 111, 119, 115, 45, 49, 50, 53, 50]),
  (RX3, 71, [99, 112, 49, 50, 53, 50]),
  (RX3, 73, [120, 45, 99, 112, 49, 50, 53, 50]),
  (RX3, 75, [117, 116, 102, 45, 56]),
  (RX3, 77, [117, 116, 102, 56]),
  (RX3, 79, [117, 116, 102, 45, 49, 54]),
  (RX3, 81, [117, 116, 102, 49, 54]),
  (RX3, 83, [117, 116, 102, 45, 49, 54, 98, 101]),
  (RX3, 85, [117, 116, 102, 45, 49, 54, 108, 101]),
  (RX3, 87, [107, 111, 105, 56, 45, 114]),
  (RX3, 89, [107, 111, 105, 56, 114]),
  (RX3, 91, [117, 116, 102, 45, 55]),
  (RX3, 93, [117, 116, 102, 55]),
  (RX19, 33, [102, 114, 111, 109]),
  (RX19, 41, [116, 111]),
  (RX19, 45, [99, 99]),
  (RX19, 51, [115, 117, 98, 106, 101, 99, 116]),
  (RX19, 68, [100, 97, 116, 101]),
  (RX19, 203, [97]),
  (RX19, 205, [112]),
  (RX19, 228, [115]),
  (RX19, 330, [99, 104, 97, 114, 115, 101, 116]),
  (RX19, 347, [116, 101, 120, 116, 47, 104, 116, 109, 108]),
  (RX19, 357, [114, 101, 102, 101, 114, 101, 110, 99, 101, 115]),
  (RX19, 362, [105, 110, 45, 114, 101, 112, 108, 121, 45, 116, 111]),
  (RX19, 409, [114, 101]),
  (RX19, 415, [97, 119]),
  (RX19, 417, [102, 119, 100]),
  (RX19, 419, [102, 119]),
  (RX27, 20, [60, 62, 58, 59, 64, 44, 46, 41, 93, 92]),
  (RX39, 46, []),
  (RX39, 67, [106, 97, 110, 102, 101, 98, 109, 97, 114, 97, 112, 114, 109, 97, 121, 106, 117, 110, 106, 117, 108, 97, 117, 103, 115, 101, 112, 111, 99, 116, 110, 111, 118, 100, 101, 99]),
  (RX39, 94, [101, 100, 116]),
  (RX39, 100, [101, 115, 116]),
  (RX39, 102, [99, 100, 116]),
  (RX39, 104, [99, 115, 116]),
  (RX39, 106, [109, 100, 116]),
  (RX39, 108, [109, 115, 116]),
  (RX39, 110, [112, 100, 116]),
  (RX39, 112, [112, 115, 116]),
  (RX30, 38, []),
  (RX22, 44, [99, 111, 110, 116, 101, 110, 116, 45, 116, 121, 112, 101]),
  (RX22, 57, [99, 111, 110, 116, 101, 110, 116, 45, 100, 105, 115, 112, 111, 115, 105, 116, 105, 111, 110]),
  (RX22, 74, [99, 111, 110, 116, 101, 110, 116, 45, 116, 114, 97, 110, 115, 102, 101, 114, 45, 101, 110, 99, 111, 100, 105, 110, 103]),
  (RX22, 79, [97, 116, 116, 97, 99, 104, 109, 101, 110, 116]),
  (RX22, 91, [102, 105, 108, 101, 110, 97, 109, 101]),
  (RX22, 96, [110, 97, 109, 101]),
  (RX22, 98, []),
  (RX22, 185, [109, 117, 108, 116, 105, 112, 97, 114, 116, 47, 100, 105, 103, 101, 115, 116]),
  (RX22, 187, [109, 101, 115, 115, 97, 103, 101, 47, 114, 102, 99, 56, 50, 50]),
  (RX22, 189, [116, 101, 120, 116, 47, 112, 108, 97, 105, 110]),
  (RX22, 191, [98, 111, 117, 110, 100, 97, 114, 121]),
  (RX22, 193, [109, 117, 108, 116, 105, 112, 97, 114, 116, 47]),
  (RX22, 201, [55, 98, 105, 116]),
  (RX22, 203, [56, 98, 105, 116]),
  (RX22, 205, [98, 105, 110, 97, 114, 121]),
  (RX22, 207, [116, 101, 120, 116, 47]),
  (RX45, 149, []),
  (RX42, 29, [98, 101, 103, 105, 110, 32]),
  (RX42, 35, [101, 110, 100]),
  (RX7, 194, [115]),
  (RX7, 236, [112]),
  (RX14, 15, [46, 109, 98, 111, 120]),
  (RX14, 41, [110, 101, 119]),
  (RX14, 47, [99, 117, 114]),
  (RX14, 61, [58, 50, 44]),
  (RX58, 9, []),
  (RX58, 141, [112]),
  (RX58, 159, [97]),
  (RX58, 197, [101, 110, 99, 114, 121, 112, 116, 101, 100]),
  (RX58, 212, [109, 117, 108, 116, 105, 112, 97, 114, 116, 47, 101, 110, 99, 114, 121, 112, 116, 101, 100]),
  (RX16, 100, [83, 70, 82, 84, 68, 80]),
  (RX29, 7, []),
  (RX29, 34, [64]),
  (RX15, 36, [109, 101, 115, 115, 97, 103, 101, 45, 105, 100, 58]),
  (RX15, 49, []),
  (RX43, 38, [60, 33, 45, 45]),
  (RX43, 44, [45, 45, 62]),
  (RX43, 50, [62]),
  (RX43, 118, [115, 99, 114, 105, 112, 116]),
  (RX43, 124, [115, 116, 121, 108, 101]),
  (RX43, 126, [116, 105, 116, 108, 101]),
  (RX43, 128, [112, 114, 101]),
  (RX43, 130, [112]),
  (RX43, 132, [100, 105, 118]),
  (RX43, 134, [98, 114]),
  (RX43, 136, [116, 114]),
  (RX43, 138, [108, 105]),
  (RX43, 140, [117, 108]),
  (RX43, 142, [111, 108]),
  (RX43, 144, [116, 97, 98, 108, 101]),
  (RX43, 146, [98, 108, 111, 99, 107, 113, 117, 111, 116, 101]),
  (RX43, 148, [104, 49]),
  (RX43, 150, [104, 50]),
  (RX43, 152, [104, 51]),
  (RX43, 154, [104, 52]),
  (RX43, 156, [104, 53]),
  (RX43, 158, [104, 54]),
  (RX43, 160, [104, 114]),
  (RX43, 162, [116, 100]),
  (RX43, 164, [116, 104]),
  (RX43, 176, [97, 109, 112]),
  (RX43, 178, [108, 116]),
  (RX43, 180, [103, 116]),
  (RX43, 182, [113, 117, 111, 116]),
  (RX43, 184, [97, 112, 111, 115]),
  (RX43, 186, [110, 98, 115, 112]),
  (RX43, 188, [101, 97, 99, 117, 116, 101]),
  (RX43, 190, [111, 117, 109, 108]),
  (RX43, 192, [97, 117, 109, 108]),
  (RX43, 194, [117, 117, 109, 108]),
  (RX43, 196, [115, 122, 108, 105, 103]),
  (RX43, 198, [101, 117, 114, 111]),
  (RX43, 200, [99, 111, 112, 121]),
  (RX20, 89, [116, 101, 120, 116, 47]),
  (RX20, 112, [45, 45]),
  (RX20, 160, []),
  (RX56, 31, [46, 46]),
  (RX53, 89, [97, 110, 100]),
  (RX53, 95, [111, 114]),
  (RX53, 97, [120, 111, 114]),
  (RX53, 102, [110, 111, 116]),
  (RX25, 32, [116, 101, 120, 116, 47, 104, 116, 109, 108]),
  (RX25, 58, [109, 117, 108, 116, 105, 112, 97, 114, 116, 47, 97, 108, 116, 101, 114, 110, 97, 116, 105, 118, 101]),
  (RX4, 35, [121]),
  (RX4, 45, [105]),
  (RX4, 89, [115, 115, 101, 115]),
  (RX4, 91, [115, 115]),
  (RX4, 93, [105, 101, 115]),
  (RX4, 95, [115]),
  (RX4, 97, []),
  (RX4, 99, [101, 101, 100]),
  (RX4, 101, [101, 101]),
  (RX4, 107, [101, 100]),
  (RX4, 109, [105, 110, 103]),
  (RX4, 111, [97, 116]),
  (RX4, 113, [97, 116, 101]),
  (RX4, 115, [98, 108]),
  (RX4, 117, [98, 108, 101]),
  (RX4, 119, [105, 122]),
  (RX4, 121, [105, 122, 101]),
  (RX4, 129, [97, 116, 105, 111, 110, 97, 108]),
  (RX4, 131, [105, 122, 97, 116, 105, 111, 110]),
  (RX4, 133, [105, 118, 101, 110, 101, 115, 115]),
  (RX4, 135, [105, 118, 101]),
  (RX4, 137, [102, 117, 108, 110, 101, 115, 115]),
  (RX4, 139, [102, 117, 108]),
  (RX4, 141, [111, 117, 115, 110, 101, 115, 115]),
  (RX4, 143, [111, 117, 115]),
  (RX4, 145, [116, 105, 111, 110, 97, 108]),
  (RX4, 147, [116, 105, 111, 110]),
  (RX4, 149, [98, 105, 108, 105, 116, 105]),
  (RX4, 151, [101, 110, 116, 108, 105]),
  (RX4, 153, [101, 110, 116]),
  (RX4, 155, [111, 117, 115, 108, 105]),
  (RX4, 157, [97, 116, 105, 111, 110]),
  (RX4, 159, [97, 108, 105, 115, 109]),
  (RX4, 161, [97, 108]),
  (RX4, 163, [97, 108, 105, 116, 105]),
  (RX4, 165, [105, 118, 105, 116, 105]),
  (RX4, 167, [101, 110, 99, 105]),
  (RX4, 169, [101, 110, 99, 101]),
  (RX4, 171, [97, 110, 99, 105]),
  (RX4, 173, [97, 110, 99, 101]),
  (RX4, 175, [105, 122, 101, 114]),
  (RX4, 177, [97, 98, 108, 105]),
  (RX4, 179, [97, 98, 108, 101]),
  (RX4, 181, [97, 108, 108, 105]),
  (RX4, 183, [97, 116, 111, 114]),
  (RX4, 185, [101, 108, 105]),
  (RX4, 187, [101]),
  (RX4, 189, [105, 99, 97, 116, 101]),
  (RX4, 191, [105, 99]),
  (RX4, 193, [97, 116, 105, 118, 101]),
  (RX4, 195, [97, 108, 105, 122, 101]),
  (RX4, 197, [105, 99, 105, 116, 105]),
  (RX4, 199, [105, 99, 97, 108]),
  (RX4, 201, [110, 101, 115, 115]),
  (RX4, 203, [101, 109, 101, 110, 116]),
  (RX4, 205, [105, 98, 108, 101]),
  (RX4, 207, [109, 101, 110, 116]),
  (RX4, 209, [97, 110, 116]),
  (RX4, 211, [105, 111, 110]),
  (RX4, 213, [105, 115, 109]),
  (RX4, 215, [105, 116, 105]),
  (RX4, 217, [101, 114]),
  (RX4, 219, [111, 117]),
  (RX2, 102, [98, 97, 115, 101, 54, 52]),
  (RX2, 108, [113, 117, 111, 116, 101, 100, 45, 112, 114, 105, 110, 116, 97, 98, 108, 101]),
  (RX2, 110, [120, 45, 117, 117, 101, 110, 99, 111, 100, 101]),
  (RX24, 7, []),
  (RJ12, 151, []),
  (RJ3, 295, [])]
def stA_ : List (Nat × List Int) := [(14, [8364, 65533, 8218, 402, 8222, 8230, 8224, 8225, 710, 8240, 352, 8249, 338, 65533, 381, 65533, 65533, 8216, 8217, 8220, 8221, 8226, 8211, 8212, 732, 8482, 353, 8250, 339, 65533, 382, 376]), (15, [164, 8364, 166, 352, 168, 353, 180, 381, 184, 382, 188, 338, 189, 339, 190, 376]), (16, [1102, 1072, 1073, 1094, 1076, 1077, 1092, 1075, 1093, 1080, 1081, 1082, 1083, 1084, 1085, 1086, 1087, 1103, 1088, 1089, 1090, 1091, 1078, 1074, 1100, 1099, 1079, 1096, 1101, 1097, 1095, 1098])]

