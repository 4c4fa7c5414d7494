section
/-- a set of things that holds the one thing o, or (o = 10) none -/
def pw_s (o : Nat) : Int32 := if o < 10 then (1 : Int32) <<< (nI o &&& 31) else 0
/-- c 0 + .. + c (n - 1) -/
def pw_sum (c : Nat → Nat) : Nat → Nat
  | 0 => 0
  | n + 1 => pw_sum c n + c n
/-- the picture: the one pair (a, b), or (a = b = 10) none -/
def pw_ok (a b : Nat) : Prop := (a < 10 ∧ b < 10 ∧ a ≠ b) ∨ (a = 10 ∧ b = 10)
/-- after and ahead hold the picture -/
def pw_K (a b : Nat) (A B : Nat → Int32) : Prop := (∀ j, j < 10 → A j = pw_s (if j = a then b else 10)) ∧ (∀ j, j < 10 → B j = pw_s (if j = b then a else 10))
theorem pw_s10 : pw_s 10 = 0 := rfl
theorem pw_sh {o : Nat} (h : o < 10) : pw_s o = (1 : Int32) <<< (nI o &&& 31) := if_pos h
theorem pw_bS : ∀ o, o < 11 → ∀ t, t < 10 → ((((pw_s o).toUInt32 >>> ((nI t).toUInt32 &&& Int32.toUInt32 31)).toInt32) &&& 1) = nI (if t = o then 1 else 0) := by decide +kernel
theorem pw_bF : ∀ t, t < 10 → ((((1023 : Int32).toUInt32 >>> ((nI t).toUInt32 &&& Int32.toUInt32 31)).toInt32) &&& 1) = nI 1 := by decide +kernel
theorem pw_sS : ∀ o, o < 11 → pw_sum (fun t => if t = o then 1 else 0) 10 = if o < 10 then 1 else 0 := by decide +kernel
theorem pw_sF : nI (pw_sum (fun _ => 1) 10) = 10 := by decide +kernel
/-- the place t of the set o, in 1023 -/
theorem pw_at : ∀ o, o < 11 → ∀ t, t < 10 → ((pw_s o &&& 1023) &&& ((1 : Int32) <<< (nI t &&& 31))) = pw_s (if t = o then o else 10) := by decide +kernel
theorem pw_ne : ∀ o, o < 10 → ¬ pw_s o = 0 := by decide +kernel
theorem pw_dis : ∀ o, o < 11 → ∀ p, p < 11 → p ≠ o → pw_s p &&& pw_s o = 0 := by decide +kernel
theorem pw_l0 : ∀ o, o < 11 → pw_s o &&& (pw_s 10 ^^^ (-1)) = pw_s o := by decide +kernel
theorem pw_l1 : ∀ o, o < 11 → pw_s o &&& (pw_s o ^^^ (-1)) = pw_s 10 := by decide +kernel
theorem pw_or1 : ∀ o, o < 11 → pw_s 10 ||| pw_s o = pw_s o := by decide +kernel
theorem pw_or2 : ∀ o, o < 11 → pw_s o ||| pw_s 10 = pw_s o := by decide +kernel
/-- a thing t is struck out of the set o -/
theorem pw_rel : ∀ o, o < 11 → ∀ t, t < 10 → pw_s o &&& (((1 : Int32) <<< (nI t &&& 31)) ^^^ (-1)) = pw_s (if o = t then 10 else o) := by decide +kernel
/-- how many pairs stand: the picture a, b; then without the thing t -/
theorem pw_cP : ∀ a, a < 10 → ∀ b, b < 10 → pw_sum (fun j => if (if j = a then b else 10) < 10 then 1 else 0) 10 = 1 := by decide +kernel
def pw_c (a b t j : Nat) : Nat := if j = t then 10 else if j = a then (if b = t then 10 else b) else 10
theorem pw_cR : ∀ t, t < 10 → ∀ a, a < 11 → ∀ b, b < 11 → pw_sum (fun j => if pw_c a b t j < 10 then 1 else 0) 10 = if a < 10 ∧ b < 10 ∧ t ≠ a ∧ t ≠ b then 1 else 0 := by decide +kernel
/-- a number is no thing, or it is one of the ten -/
theorem pw_cls (x : Int32) : (x < 0 ∨ 9 < x) ∨ ∃ j : Nat, j < 10 ∧ x = nI j := by
  by_cases h0 : x < 0
  · exact Or.inl (Or.inl h0)
  · by_cases h9 : 9 < x
    · exact Or.inl (Or.inr h9)
    · obtain ⟨j, hj, e⟩ := nI_of2 (x := x) (M := 9) (n := 9) (by decide) h0 (Int32.not_lt.mp h9)
      exact Or.inr ⟨j, by omega, e⟩
theorem pw_two {x : Int32} {A B : Prop} (f : (x < 0 ∨ 9 < x) → A) (g : ∀ j : Nat, j < 10 → x = nI j → B) : (x < 0 → A) ∧ (¬ x < 0 → ((9 < x → A) ∧ (¬ 9 < x → B))) :=
  ⟨fun h => f (Or.inl h), fun h => ⟨fun h9 => f (Or.inr h9), fun h9 => by
    rcases pw_cls x with (z | z) | ⟨j, hj, e⟩
    · exact absurd z h
    · exact absurd z h9
    · exact g j hj e⟩⟩
theorem pw_thB {post : Int32 → Prop} {x : Int32} (h : x < 0 ∨ 9 < x) (H : post 0) : wpX_isThing post () x :=
  pw_two (fun _ => H) (fun j hj e => by
    exfalso
    rw [e] at h
    rcases h with z | z
    · exact nI_pos (by omega) z
    · exact nI_nlt (a := 9) (b := j) (by omega) (by omega) z)
theorem pw_thG {post : Int32 → Prop} {j : Nat} (hj : j < 10) (H : post 1) : wpX_isThing post () (nI j) :=
  pw_two (fun h => by
    exfalso
    rcases h with z | z
    · exact nI_pos (by omega) z
    · exact nI_nlt (a := 9) (b := j) (by omega) (by omega) z) (fun _ _ _ => H)
/-- size -/
theorem pw_size {post : Int32 → Prop} {x : Int32} {c : Nat → Nat} (h : ∀ t, t < 10 → (((x.toUInt32 >>> ((nI t).toUInt32 &&& Int32.toUInt32 31)).toInt32) &&& 1) = nI (c t)) (H : post (nI (pw_sum c 10))) : wpX_size post () x :=
  pk_loop (σ := Unit) (fun n i _ => wX_size_4 post x n (nI (pw_sum c i)) (nI i)) (fun _ _ => True) 10 0 () (by omega) trivial
    (fun n _ _ => pk_le 10 10 (fun _ => H) (fun z => absurd z (by omega)))
    (fun n i _ hi _ hw => pk_le 10 i (fun z => absurd z (by omega)) (fun _ => nm_r (e' := nI (pw_sum c (i + 1))) (by rw [h i hi, nI_add]; rfl) (nm_r (nI_1 i) (hw () trivial))))
theorem pw_sizeS {post : Int32 → Prop} {o : Nat} (ho : o < 11) (H : post (nI (if o < 10 then 1 else 0))) : wpX_size post () (pw_s o) :=
  pw_size (c := fun t => if t = o then 1 else 0) (pw_bS o ho) (by rw [pw_sS o ho]; exact H)
theorem pw_sizeF {post : Int32 → Prop} (H : post 10) : wpX_size post () 1023 :=
  pw_size (c := fun _ => 1) pw_bF (by rw [pw_sF]; exact H)
/-- pairs -/
theorem pw_pairs {post : Int32 → Prop} {f : Int32} {a1 a2 a3 a4 a5 a6 : Nat → Int32} {c : Nat → Nat} (h : ∀ j, j < 10 → c j < 11 ∧ a1 j = pw_s (c j)) (H : post (nI (pw_sum (fun j => if c j < 10 then 1 else 0) 10))) : wpX_pairs post (f, a1, a2, a3, a4, a5, a6) :=
  pk_loop (σ := Unit) (fun n i _ => wX_pairs_4 post f a1 a2 a3 a4 a5 a6 n (nI (pw_sum (fun j => if c j < 10 then 1 else 0) i)) (nI i)) (fun _ _ => True) 10 0 () (by omega) trivial
    (fun n _ _ => pk_le 10 10 (fun _ => H) (fun z => absurd z (by omega)))
    (fun n i _ hi _ hw => pk_le 10 i (fun z => absurd z (by omega)) (fun _ => ⟨pk_in i 10 hi, by
      rw [nI_clamp (show i < 2 ^ 31 by omega), (h i hi).2]
      exact pw_sizeS (h i hi).1 (nm_r (nI_add _ _) (nm_r (nI_1 i) (hw () trivial)))⟩))
end
section
/-- put's second half of a turn: ahead -/
theorem pw_put88 {post : Int32 → St2 → Prop} {J : Int32 → (Nat → Int32) → (Nat → Int32) → (Nat → Int32) → (Nat → Int32) → (Nat → Int32) → (Nat → Int32) → Prop} {x3 f : Int32} {a1 a2 a3 a4 a5 a6 : Nat → Int32} {i b : Nat} (hi : i < 10) (hb : b < 10) (h0 : a2 i = 0)
    (H : ∀ B : Nat → Int32, (∀ j, j < 10 → B j = if j = i ∧ i = b then x3 else a2 j) → J (nI (i + 1)) a1 B a3 a4 a5 a6) : wX_put_88 post J x3 (pw_s b) (nI i) f a1 a2 a3 a4 a5 a6 := by
  unfold wX_put_88
  rw [pw_bS b (by omega) i hi]
  by_cases e : i = b
  · rw [if_pos e]
    refine br_f (by decide) ⟨pk_in i 10 hi, pk_in i 10 hi, nm_e (nm_r (nI_1 i) (H _ ?_))⟩
    rw [nI_clamp (show i < 2 ^ 31 by omega), h0]
    intro j hj
    by_cases ej : j = i
    · rw [ej, pk_us, if_pos ⟨rfl, e⟩]
      exact Int32.zero_or
    · rw [pk_un ej, if_neg (fun z => ej z.1)]
  · rw [if_neg e]
    exact br_t (by rfl) (nm_r (nI_1 i) (H _ (fun j hj => by rw [if_neg (fun z => e z.2)])))
/-- put's loop over empty arrays -/
theorem pw_put60 {post : Int32 → St2 → Prop} {f : Int32} {a1 a2 a3 a4 a5 a6 : Nat → Int32} {a b : Nat} (ha : a < 10) (hb : b < 10) (h1 : ∀ j, j < 10 → a1 j = 0) (h2 : ∀ j, j < 10 → a2 j = 0)
    (H : ∀ A B : Nat → Int32, pw_K a b A B → post 1 (f, A, B, a3, a4, a5, a6)) : ∃ n, wX_put_60 post (pw_s a) (pw_s b) f n 0 a1 a2 a3 a4 a5 a6 := by
  refine pk_loop (σ := (Nat → Int32) × (Nat → Int32)) (fun n i s => wX_put_60 post (pw_s a) (pw_s b) f n (nI i) s.1 s.2 a3 a4 a5 a6)
    (fun i s => (∀ j, j < 10 → s.1 j = pw_s (if j = a ∧ j < i then b else 10)) ∧ (∀ j, j < 10 → s.2 j = pw_s (if j = b ∧ j < i then a else 10)))
    10 0 (a1, a2) (by omega) ⟨fun j hj => ?_, fun j hj => ?_⟩ ?_ ?_
  · rw [if_neg (by omega)]
    exact h1 j hj
  · rw [if_neg (by omega)]
    exact h2 j hj
  · intro n s h
    refine pk_le 10 10 (fun _ => ?_) (fun z => absurd z (by omega))
    have k : pw_K a b s.1 s.2 := ⟨fun j hj => by rw [h.1 j hj]; exact congrArg pw_s (by split <;> split <;> omega), fun j hj => by rw [h.2 j hj]; exact congrArg pw_s (by split <;> split <;> omega)⟩
    refine pw_pairs (c := fun j => if j = a then b else 10) (fun j hj => ⟨by split <;> omega, k.1 j hj⟩) ?_
    rw [pw_cP a ha b hb]
    exact H s.1 s.2 k
  · intro n i s hi h hw
    refine pk_le 10 i (fun z => absurd z (by omega)) (fun _ => ?_)
    have z1 : s.1 i = 0 := by rw [h.1 i hi, if_neg (by omega)]; rfl
    have z2 : s.2 i = 0 := by rw [h.2 i hi, if_neg (by omega)]; rfl
    have k2 : ∀ B : Nat → Int32, (∀ j, j < 10 → B j = if j = i ∧ i = b then pw_s a else s.2 j) → ∀ j, j < 10 → B j = pw_s (if j = b ∧ j < i + 1 then a else 10) := by
      intro B hB j hj
      rw [hB j hj]
      by_cases c : j = i ∧ i = b
      · rw [if_pos c, if_pos ⟨by omega, by omega⟩]
      · rw [if_neg c, h.2 j hj]
        exact congrArg pw_s (by split <;> split <;> omega)
    rw [pw_bS a (by omega) i hi]
    by_cases e : i = a
    · rw [if_pos e]
      refine br_f (by decide) ⟨pk_in i 10 hi, pk_in i 10 hi, nm_e (pw_put88 hi hb z2 (fun B hB => hw (_, B) ⟨?_, k2 B hB⟩))⟩
      rw [nI_clamp (show i < 2 ^ 31 by omega), z1, Int32.zero_or]
      intro j hj
      show upd s.1 i (pw_s b) j = pw_s (if j = a ∧ j < i + 1 then b else 10)
      by_cases ej : j = i
      · rw [ej, pk_us, if_pos ⟨e, by omega⟩]
      · rw [pk_un ej, h.1 j hj]
        exact congrArg pw_s (by split <;> split <;> omega)
    · rw [if_neg e]
      refine br_t (by rfl) (pw_put88 hi hb z2 (fun B hB => hw (s.1, B) ⟨fun j hj => ?_, k2 B hB⟩))
      rw [h.1 j hj]
      exact congrArg pw_s (by split <;> split <;> omega)
/-- put of a pair into the empty order -/
theorem pw_putG {post : Int32 → St2 → Prop} {f : Int32} {a1 a2 a3 a4 a5 a6 : Nat → Int32} {a b : Nat} (ha : a < 10) (hb : b < 10) (hab : a ≠ b) (h1 : ∀ j, j < 10 → a1 j = 0) (h2 : ∀ j, j < 10 → a2 j = 0)
    (H : ∀ A B : Nat → Int32, pw_K a b A B → post 1 (f, A, B, a3, a4, a5, a6)) : wpX_put post (f, a1, a2, a3, a4, a5, a6) (nI a) (nI b) := by
  unfold wpX_put
  refine pw_thG ha (br_f (by decide) (pw_thG hb (br_f (by decide) (pk_eq a b (fun z => absurd z hab) (fun _ => ⟨pk_in b 10 hb, ?_⟩)))))
  rw [nI_clamp (show b < 2 ^ 31 by omega), nI_clamp (show a < 2 ^ 31 by omega), h1 b hb, h2 a ha]
  refine br_t ?_ ⟨pk_in a 10 ha, nm_r (e' := pw_s a) ?_ ⟨pk_in b 10 hb, nm_r (e' := pw_s b) ?_ (pw_put60 ha hb h1 h2 H)⟩⟩
  · have t := pw_bS 10 (by omega) a ha
    rw [if_neg (by omega)] at t
    exact t
  · rw [Int32.zero_or, pw_sh ha]
  · rw [Int32.zero_or, pw_sh hb]
/-- put that is refused: no thing, or one thing twice -/
theorem pw_putB {post : Int32 → St2 → Prop} {f : Int32} {a1 a2 a3 a4 a5 a6 : Nat → Int32} {x y : Int32} (h : (x < 0 ∨ 9 < x) ∨ (y < 0 ∨ 9 < y) ∨ x = y)
    (H : post (-1) (f, a1, a2, a3, a4, a5, a6)) : wpX_put post (f, a1, a2, a3, a4, a5, a6) x y := by
  unfold wpX_put
  rcases pw_cls x with hx | ⟨i, hi, ex⟩
  · exact pw_thB hx (br_t rfl H)
  · rcases pw_cls y with hy | ⟨j, hj, ey⟩
    · subst ex
      exact pw_thG hi (br_f (by decide) (pw_thB hy (br_t rfl H)))
    · have e : x = y := by
        rcases h with z | z | z
        · exfalso
          rw [ex] at z
          rcases z with z | z
          · exact nI_pos (by omega) z
          · exact nI_nlt (a := 9) (b := i) (by omega) (by omega) z
        · exfalso
          rw [ey] at z
          rcases z with z | z
          · exact nI_pos (by omega) z
          · exact nI_nlt (a := 9) (b := j) (by omega) (by omega) z
        · exact z
      subst ex
      subst e
      exact pw_thG hi (br_f (by decide) (pw_thG hi (br_f (by decide) (br_t rfl H))))
/-- put the other way round is refused -/
theorem pw_putR {post : Int32 → St2 → Prop} {f : Int32} {a1 a2 a3 a4 a5 a6 : Nat → Int32} {a b : Nat} (ha : a < 10) (hb : b < 10) (hab : a ≠ b) (k : pw_K a b a1 a2)
    (H : post (-1) (f, a1, a2, a3, a4, a5, a6)) : wpX_put post (f, a1, a2, a3, a4, a5, a6) (nI b) (nI a) := by
  unfold wpX_put
  refine pw_thG hb (br_f (by decide) (pw_thG ha (br_f (by decide) (pk_eq b a (fun z => absurd z.symm hab) (fun _ => ⟨pk_in a 10 ha, ?_⟩)))))
  rw [nI_clamp (show a < 2 ^ 31 by omega), k.1 a ha, if_pos rfl, pw_bS b (by omega) b hb, if_pos rfl]
  exact br_f (by decide) H
/-- before -/
theorem pw_befB {post : Int32 → Prop} {f : Int32} {a1 a2 a3 a4 a5 a6 : Nat → Int32} {x y : Int32} (h : (x < 0 ∨ 9 < x) ∨ (y < 0 ∨ 9 < y)) (H : post (-1)) : wpX_before post (f, a1, a2, a3, a4, a5, a6) x y := by
  unfold wpX_before
  rcases pw_cls x with hx | ⟨i, hi, ex⟩
  · exact pw_thB hx (br_t rfl H)
  · subst ex
    rcases h with z | z
    · exfalso
      rcases z with z | z
      · exact nI_pos (by omega) z
      · exact nI_nlt (a := 9) (b := i) (by omega) (by omega) z
    · exact pw_thG hi (br_f (by decide) (pw_thB z (br_t rfl H)))
theorem pw_befG {post : Int32 → Prop} {f : Int32} {a1 a2 a3 a4 a5 a6 : Nat → Int32} {x y o : Nat} (hx : x < 10) (hy : y < 10) (ho : o < 11) (h : a1 x = pw_s o) (H : post (nI (if y = o then 1 else 0))) : wpX_before post (f, a1, a2, a3, a4, a5, a6) (nI x) (nI y) := by
  unfold wpX_before
  refine pw_thG hx (br_f (by decide) (pw_thG hy (br_f (by decide) ⟨pk_in x 10 hx, ?_⟩)))
  rw [nI_clamp (show x < 2 ^ 31 by omega), h, pw_bS o ho y hy]
  exact H
end
section
/-- spread from a thing with nothing behind it -/
theorem pw_spN {post : Int32 → St2 → Prop} {f : Int32} {a1 a2 a3 a4 a5 a6 : Nat → Int32} {i : Nat} (hi : i < 10) (h : a1 i = pw_s 10)
    (H : post (-1) (f, a1, a2, a3, a4, a5, a6)) : wpX_spread post (f, a1, a2, a3, a4, a5, a6) (nI i) 1023 :=
  pk_loop (σ := Unit) (fun n t _ => wX_spread_2 post (nI i) 1023 n (nI t) f a1 a2 a3 a4 a5 a6) (fun _ _ => True) 10 0 () (by omega) trivial
    (fun n _ _ => pk_le 10 10 (fun _ => H) (fun z => absurd z (by omega)))
    (fun n t _ ht _ hw => pk_le 10 t (fun z => absurd z (by omega)) (fun _ => ⟨pk_in i 10 hi, br_t (by rw [nI_clamp (show i < 2 ^ 31 by omega), h, pw_at 10 (by omega) t ht, if_neg (by omega)]; rfl) (nm_r (nI_1 t) (hw () trivial))⟩))
/-- spread from the thing that comes before b -/
theorem pw_spY {post : Int32 → St2 → Prop} {f : Int32} {a1 a2 a3 a4 a5 a6 : Nat → Int32} {i b : Nat} (hi : i < 10) (hb : b < 10) (h : a1 i = pw_s b) (h4 : a4 b = -1) (h5 : a5 b = -1)
    (H : post (nI b) (f, a1, a2, a3, a4, upd a5 b (nI i), a6)) : wpX_spread post (f, a1, a2, a3, a4, a5, a6) (nI i) 1023 := by
  refine pk_loop (σ := Unit) (fun n t _ => wX_spread_2 post (nI i) 1023 n (nI t) f a1 a2 a3 a4 a5 a6) (fun _ _ => True) b 0 () (by omega) trivial ?_ ?_
  · intro n _ _
    refine pk_le 10 b (fun z => absurd z (by omega)) (fun _ => ⟨pk_in i 10 hi, ?_⟩)
    rw [nI_clamp (show i < 2 ^ 31 by omega), nI_clamp (show b < 2 ^ 31 by omega), h, pw_at b (by omega) b hb, if_pos rfl, h4, h5]
    exact br_f (pw_ne b hb) ⟨pk_in b 10 hb, br_f (by decide) ⟨pk_in b 10 hb, nm_e ⟨pk_in b 10 hb, br_f (by decide) H⟩⟩⟩
  · intro n t _ ht _ hw
    refine pk_le 10 t (fun z => absurd z (by omega)) (fun _ => ⟨pk_in i 10 hi, br_t ?_ (nm_r (nI_1 t) (hw () trivial))⟩)
    rw [nI_clamp (show i < 2 ^ 31 by omega), h, pw_at b (by omega) t (by omega), if_neg (by omega)]
    rfl
/-- a way of one step is turned round -/
theorem pw_turn {post : St2 → Prop} {f : Int32} {a1 a2 a3 a4 a5 a6 : Nat → Int32} {a b : Nat} (ha : a < 10) (hb : b < 10) (h5 : a5 b = nI a) (h3 : a3 a = -1)
    (H : post (f, a1, a2, upd a3 a (nI b), upd a4 b (nI a), a5, a6)) : wpX_turnWay post (f, a1, a2, a3, a4, a5, a6) (nI b) := by
  have w : wX_turnWay_4 post f 1 (-1) (nI 1) a1 a2 (upd a3 a (nI b)) (upd a4 b (nI a)) a5 a6 :=
    pk_le 10 1 (fun z => absurd z (by omega)) (fun _ => br_t (by decide) H)
  refine ⟨2, pk_le 10 0 (fun z => absurd z (by omega)) (fun _ => br_f (nI_pos (by omega)) ⟨pk_in b 10 hb, nm_r (e' := nI a) ?_ ⟨pk_in a 10 ha, nm_r (e' := -1) ?_ ⟨pk_in a 10 ha, nm_r (e' := upd a3 a (nI b)) ?_ ⟨pk_in b 10 hb, nm_r (e' := upd a4 b (nI a)) ?_ (nm_r (e' := nI 1) ?_ w)⟩⟩⟩⟩)⟩
  · rw [nI_clamp (show b < 2 ^ 31 by omega), h5]
  · rw [nI_clamp (show a < 2 ^ 31 by omega), h3]
  · rw [nI_clamp (show a < 2 ^ 31 by omega)]
  · rw [nI_clamp (show b < 2 ^ 31 by omega)]
  · rfl
/-- lengthen: its first loop empties reachedFrom -/
theorem pw_len2 {post : Int32 → St2 → Prop} {x1 x2 f : Int32} {a1 a2 a3 a4 a5 a6 : Nat → Int32}
    (H : ∀ b5 : Nat → Int32, (∀ j, j < 10 → b5 j = -1) → ∃ n, wX_lengthen_35 post x2 n 0 1 a1 a2 a3 a4 b5 (upd a6 0 x1)) : wpX_lengthen post (f, a1, a2, a3, a4, a5, a6) x1 x2 := by
  refine pk_loop (fun n i s => wX_lengthen_2 post x1 x2 f n (nI i) a1 a2 a3 a4 s a6) (fun i s => ∀ j, j < i → s j = -1) 10 0 a5 (by omega) (fun j hj => absurd hj (by omega)) ?_ ?_
  · intro n s h
    exact pk_le 10 10 (fun _ => nm_e (H s h)) (fun z => absurd z (by omega))
  · intro n i s hi h hw
    refine pk_le 10 i (fun z => absurd z (by omega)) (fun _ => ⟨pk_in i 10 hi, nm_e (nm_r (nI_1 i) (hw _ ?_))⟩)
    intro j hj
    rw [nI_clamp (show i < 2 ^ 31 by omega)]
    by_cases e : j = i
    · rw [e, pk_us]
    · rw [pk_un e]
      exact h j (by omega)
/-- lengthen from a thing with nothing behind it -/
theorem pw_lenN {post : Int32 → St2 → Prop} {f : Int32} {a1 a2 a3 a4 a5 a6 : Nat → Int32} {i : Nat} (hi : i < 10) (h : a1 i = pw_s 10)
    (H : ∀ (g : Int32) (b5 b6 : Nat → Int32), post 0 (g, a1, a2, a3, a4, b5, b6)) : wpX_lengthen post (f, a1, a2, a3, a4, a5, a6) (nI i) 1023 := by
  refine pw_len2 (fun b5 h5 => ⟨2, pk_le 1 0 (fun z => absurd z (by omega)) (fun _ => pk_le 10 0 (fun z => absurd z (by omega)) (fun _ => ⟨pk_in 0 10 (by omega), ?_⟩))⟩)
  have e6 : (upd a6 0 (nI i)) (0 : Int32).toNatClampNeg = nI i := by rw [sb_cl0, pk_us]
  rw [e6]
  refine pw_spN hi h (br_t (by decide) (nm_r (e' := nI 1) rfl ?_))
  exact pk_le 1 1 (fun _ => H _ _ _) (fun z => absurd z (by omega))
/-- lengthen from the thing that comes before b, neither of them joined yet -/
theorem pw_lenY {post : Int32 → St2 → Prop} {f : Int32} {a1 a2 a3 a4 a5 a6 : Nat → Int32} {i b : Nat} (hi : i < 10) (hb : b < 10) (h : a1 i = pw_s b) (h3 : a3 i = -1) (h4 : a4 b = -1)
    (H : ∀ (g : Int32) (b3 b4 b5 b6 : Nat → Int32), post 1 (g, a1, a2, b3, b4, b5, b6)) : wpX_lengthen post (f, a1, a2, a3, a4, a5, a6) (nI i) 1023 := by
  refine pw_len2 (fun b5 h5 => ⟨2, pk_le 1 0 (fun z => absurd z (by omega)) (fun _ => pk_le 10 0 (fun z => absurd z (by omega)) (fun _ => ⟨pk_in 0 10 (by omega), ?_⟩))⟩)
  have e6 : (upd a6 0 (nI i)) (0 : Int32).toNatClampNeg = nI i := by rw [sb_cl0, pk_us]
  rw [e6]
  exact pw_spY hi hb h h4 (h5 b hb) (br_f (nI_pos (by omega)) (pw_turn hi hb pk_us h3 (H _ _ _ _ _)))
/-- widthOf: its first loop empties the joints -/
theorem pw_wid2 {post : Int32 → St2 → Prop} {f : Int32} {a1 a2 a3 a4 a5 a6 : Nat → Int32}
    (H : ∀ b3 b4 : Nat → Int32, (∀ j, j < 10 → b3 j = -1 ∧ b4 j = -1) → ∃ n, wX_widthOf_35 post 1023 n 10 0 f a1 a2 b3 b4 a5 a6) : wpX_widthOf post (f, a1, a2, a3, a4, a5, a6) 1023 := by
  refine pk_loop (σ := (Nat → Int32) × (Nat → Int32)) (fun n i s => wX_widthOf_2 post 1023 f n (nI i) a1 a2 s.1 s.2 a5 a6) (fun i s => ∀ j, j < i → s.1 j = -1 ∧ s.2 j = -1) 10 0 (a3, a4) (by omega) (fun j hj => absurd hj (by omega)) ?_ ?_
  · intro n s h
    exact pk_le 10 10 (fun _ => pw_sizeF (H s.1 s.2 h)) (fun z => absurd z (by omega))
  · intro n i s hi h hw
    refine pk_le 10 i (fun z => absurd z (by omega)) (fun _ => ⟨pk_in i 10 hi, nm_e ⟨pk_in i 10 hi, nm_e (nm_r (nI_1 i) (hw (_, _) ?_))⟩⟩)
    intro j hj
    rw [nI_clamp (show i < 2 ^ 31 by omega)]
    show upd s.1 i (-1) j = -1 ∧ upd s.2 i (-1) j = -1
    by_cases e : j = i
    · rw [e, pk_us, pk_us]
      exact ⟨rfl, rfl⟩
    · rw [pk_un e, pk_un e]
      exact h j (by omega)
/-- width: ten chains, one less if a pair stands -/
theorem pw_width {post : Int32 → St2 → Prop} {f : Int32} {a1 a2 a3 a4 a5 a6 : Nat → Int32} {a b : Nat} (ok : pw_ok a b) (k : pw_K a b a1 a2)
    (H : ∀ (g : Int32) (b3 b4 b5 b6 : Nat → Int32), post (nI (if a < 10 then 9 else 10)) (g, a1, a2, b3, b4, b5, b6)) : wpX_width post (f, a1, a2, a3, a4, a5, a6) := by
  refine pw_wid2 (fun c3 c4 hc => ?_)
  refine pk_loop (σ := Int32 × (Nat → Int32) × (Nat → Int32) × (Nat → Int32) × (Nat → Int32)) (fun n i s => wX_widthOf_35 _ 1023 n (nI (if a < i then 9 else 10)) (nI i) s.1 a1 a2 s.2.1 s.2.2.1 s.2.2.2.1 s.2.2.2.2)
    (fun i s => i ≤ a → ∀ j, j < 10 → s.2.1 j = -1 ∧ s.2.2.1 j = -1) 10 0 (f, c3, c4, a5, a6) (by omega) (fun _ => hc) ?_ ?_
  · intro n s _
    exact pk_le 10 10 (fun _ => H _ _ _ _ _) (fun z => absurd z (by omega))
  · intro n i s hi h hw
    refine pk_le 10 i (fun z => absurd z (by omega)) (fun _ => ?_)
    rw [pw_bF i hi]
    refine br_f (by decide) ?_
    by_cases e : i = a
    · have hb : b < 10 := by
        rcases ok with z | z
        · exact z.2.1
        · omega
      have hk : a1 i = pw_s b := by rw [k.1 i hi, if_pos e]
      refine pw_lenY hi hb hk (h (by omega) i hi).1 (h (by omega) b hb).2 (fun g b3 b4 b5 b6 => br_f (by decide) (nm_r (e' := nI (if a < i + 1 then 9 else 10)) ?_ (nm_r (nI_1 i) (hw (g, b3, b4, b5, b6) (fun z => absurd z (by omega))))))
      rw [if_neg (by omega), if_pos (by omega)]
      rfl
    · have hk : a1 i = pw_s 10 := by rw [k.1 i hi, if_neg e]
      refine pw_lenN hi hk (fun g b5 b6 => br_t rfl (nm_r (e' := nI (if a < i + 1 then 9 else 10)) ?_ (nm_r (nI_1 i) (hw (g, s.2.1, s.2.2.1, b5, b6) (fun z => h (by omega))))))
      rw [Int32.sub_zero]
      exact congrArg nI (by split <;> split <;> omega)
end
section
/-- firstOnes of a set of one thing, or of none: the set itself -/
theorem pw_first {post : Int32 → Prop} {f : Int32} {a1 a2 a3 a4 a5 a6 : Nat → Int32} {c : Nat → Nat} {o : Nat} (ho : o < 11) (h : ∀ j, j < 10 → c j < 11 ∧ c j ≠ j ∧ a2 j = pw_s (c j)) (H : post (pw_s o)) : wpX_firstOnes post (f, a1, a2, a3, a4, a5, a6) (pw_s o) := by
  refine pk_loop (σ := Unit) (fun n i _ => wX_firstOnes_4 post (pw_s o) f a1 a2 a3 a4 a5 a6 n (pw_s (if o < i then o else 10)) (nI i)) (fun _ _ => True) 10 0 () (by omega) trivial ?_ ?_
  · intro n _ _
    refine pk_le 10 10 (fun _ => ?_) (fun z => absurd z (by omega))
    rw [show (if o < 10 then o else 10) = o by split <;> omega]
    exact H
  · intro n i _ hi _ hw
    refine pk_le 10 i (fun z => absurd z (by omega)) (fun _ => ?_)
    rw [pw_bS o ho i hi]
    have t : wX_firstOnes_4 post (pw_s o) f a1 a2 a3 a4 a5 a6 n (pw_s (if o < i + 1 then o else 10)) (nI (i + 1)) := hw () trivial
    by_cases e : i = o
    · rw [if_pos e]
      refine br_f (by decide) ⟨pk_in i 10 hi, br_t ?_ (nm_r (e' := pw_s (if o < i + 1 then o else 10)) ?_ (nm_r (nI_1 i) t))⟩
      · rw [nI_clamp (show i < 2 ^ 31 by omega), (h i hi).2.2]
        exact pw_dis o ho (c i) (h i hi).1 (by have := (h i hi).2.1; omega)
      · rw [← pw_sh hi, if_neg (by omega), if_pos (by omega), e]
        exact pw_or1 o ho
    · rw [if_neg e]
      refine br_t (by rfl) (nm_r (nI_1 i) ?_)
      rw [show (if o < i then o else 10) = (if o < i + 1 then o else 10) by split <;> split <;> omega]
      exact t
/-- longest chain within a set of one thing, or of none -/
theorem pw_long {post : Int32 → Prop} {f : Int32} {a1 a2 a3 a4 a5 a6 : Nat → Int32} {c : Nat → Nat} {o : Nat} (ho : o < 11) (h : ∀ j, j < 10 → c j < 11 ∧ c j ≠ j ∧ a2 j = pw_s (c j)) (H : post (nI (if o < 10 then 1 else 0))) : wpX_longest post (f, a1, a2, a3, a4, a5, a6) (pw_s o) := by
  refine pk_loop (σ := Unit) (fun n i _ => wX_longest_7 post (pw_s o) f a1 a2 a3 a4 a5 a6 n (nI (if 0 < i ∧ o < 10 then 1 else 0)) (pw_s (if 0 < i then o else 10)) (nI i)) (fun _ _ => True) 10 0 () (by omega) trivial ?_ ?_
  · intro n _ _
    refine pk_le 10 10 (fun _ => ?_) (fun z => absurd z (by omega))
    rw [show (if 0 < 10 ∧ o < 10 then 1 else 0) = (if o < 10 then 1 else 0) by split <;> split <;> omega]
    exact H
  · intro n i _ hi _ hw
    refine pk_le 10 i (fun z => absurd z (by omega)) (fun _ => ?_)
    have t : wX_longest_7 post (pw_s o) f a1 a2 a3 a4 a5 a6 n (nI (if 0 < i + 1 ∧ o < 10 then 1 else 0)) (pw_s (if 0 < i + 1 then o else 10)) (nI (i + 1)) := hw () trivial
    rw [if_pos (show 0 < i + 1 by omega)] at t
    by_cases e : 0 < i
    · rw [if_pos e, pw_l1 o ho]
      refine pw_first (by omega) h (br_t pw_s10 (nm_r (pw_or2 o ho) (nm_r (nI_1 i) ?_)))
      rw [show (if 0 < i ∧ o < 10 then 1 else 0) = (if 0 < i + 1 ∧ o < 10 then 1 else 0) by split <;> split <;> omega]
      exact t
    · rw [if_neg e, pw_l0 o ho]
      refine pw_first ho h ?_
      by_cases e2 : o < 10
      · refine br_f (pw_ne o e2) (nm_r (e' := nI (if 0 < i + 1 ∧ o < 10 then 1 else 0)) ?_ (nm_r (pw_or1 o ho) (nm_r (nI_1 i) t)))
        rw [if_neg (by omega), if_pos (by omega)]
        rfl
      · have e3 : o = 10 := by omega
        refine br_t (by rw [e3]; rfl) (nm_r (pw_or1 o ho) (nm_r (nI_1 i) ?_))
        rw [show (if 0 < i ∧ o < 10 then 1 else 0) = (if 0 < i + 1 ∧ o < 10 then 1 else 0) by split <;> split <;> omega]
        exact t
/-- heightWith of a thing -/
theorem pw_hW {post : Int32 → Prop} {f : Int32} {a1 a2 a3 a4 a5 a6 : Nat → Int32} {a b i : Nat} (ok : pw_ok a b) (k : pw_K a b a1 a2) (hi : i < 10)
    (H : post (nI ((if i = b then 1 else 0) + 1 + (if i = a then 1 else 0)))) : wpX_heightWith post (f, a1, a2, a3, a4, a5, a6) (nI i) := by
  have hc : ∀ j, j < 10 → (if j = b then a else 10) < 11 ∧ (if j = b then a else 10) ≠ j ∧ a2 j = pw_s (if j = b then a else 10) := by
    intro j hj
    refine ⟨?_, ?_, k.2 j hj⟩
    · rcases ok with z | z
      · split <;> omega
      · split <;> omega
    · rcases ok with z | z
      · split <;> omega
      · split <;> omega
  unfold wpX_heightWith
  refine pw_thG hi (br_f (by decide) ⟨pk_in i 10 hi, ?_⟩)
  rw [nI_clamp (show i < 2 ^ 31 by omega), k.1 i hi, k.2 i hi]
  refine pw_long (c := fun j => if j = b then a else 10) (hc i hi).1 hc ⟨pk_in i 10 hi, pw_long (c := fun j => if j = b then a else 10) ?_ hc ?_⟩
  · rcases ok with z | z
    · split <;> omega
    · split <;> omega
  · rw [nI_1, nI_add]
    have e1 : (if (if i = b then a else 10) < 10 then 1 else 0) = (if i = b then 1 else 0) := by
      rcases ok with z | z
      · by_cases q : i = b
        · rw [if_pos q, if_pos q, if_pos z.1]
        · rw [if_neg q, if_neg q, if_neg (by omega)]
      · rw [if_neg (show ¬ i = b by omega), if_neg (show ¬ i = b by omega), if_neg (by omega)]
    have e2 : (if (if i = a then b else 10) < 10 then 1 else 0) = (if i = a then 1 else 0) := by
      rcases ok with z | z
      · by_cases q : i = a
        · rw [if_pos q, if_pos q, if_pos z.2.1]
        · rw [if_neg q, if_neg q, if_neg (by omega)]
      · rw [if_neg (show ¬ i = a by omega), if_neg (show ¬ i = a by omega), if_neg (by omega)]
    rw [e1, e2]
    exact H
/-- the greatest height among the things below i -/
def pw_h (a b i : Nat) : Nat := if i = 0 then 0 else if a < i ∨ b < i then 2 else 1
theorem pw_h_le {a b i : Nat} (ok : pw_ok a b) (hi : i < 10) (h : (if i = b then 1 else 0) + 1 + (if i = a then 1 else 0) ≤ pw_h a b i) : pw_h a b i = pw_h a b (i + 1) := by
  unfold pw_h at h ⊢
  unfold pw_ok at ok
  split at h <;> split at h <;> (repeat' split at h) <;> (repeat' split) <;> omega
theorem pw_h_lt {a b i : Nat} (ok : pw_ok a b) (hi : i < 10) (h : pw_h a b i < (if i = b then 1 else 0) + 1 + (if i = a then 1 else 0)) : (if i = b then 1 else 0) + 1 + (if i = a then 1 else 0) = pw_h a b (i + 1) := by
  unfold pw_h at h ⊢
  unfold pw_ok at ok
  split at h <;> split at h <;> (repeat' split at h) <;> (repeat' split) <;> omega
theorem pw_h_3 {a b i : Nat} (ok : pw_ok a b) (hi : i < 11) : pw_h a b i < 3 := by
  unfold pw_h
  (repeat' split) <;> omega
/-- height: 1, or 2 if a pair stands -/
theorem pw_height {post : Int32 → Prop} {f : Int32} {a1 a2 a3 a4 a5 a6 : Nat → Int32} {a b : Nat} (ok : pw_ok a b) (k : pw_K a b a1 a2)
    (H : post (nI (if a < 10 then 2 else 1))) : wpX_height post (f, a1, a2, a3, a4, a5, a6) := by
  refine pk_loop (σ := Unit) (fun n i _ => wX_height_4 post f a1 a2 a3 a4 a5 a6 n (nI (pw_h a b i)) (nI i)) (fun _ _ => True) 10 0 () (by omega) trivial ?_ ?_
  · intro n _ _
    refine pk_le 10 10 (fun _ => ?_) (fun z => absurd z (by omega))
    have e : pw_h a b 10 = if a < 10 then 2 else 1 := by
      unfold pw_h
      unfold pw_ok at ok
      (repeat' split) <;> omega
    rw [e]
    exact H
  · intro n i _ hi _ hw
    refine pk_le 10 i (fun z => absurd z (by omega)) (fun _ => pw_hW ok k hi ?_)
    have h3 := pw_h_3 ok (show i < 11 by omega)
    have hv : (if i = b then 1 else 0) + 1 + (if i = a then 1 else 0) < 4 := by split <;> split <;> omega
    have t : wX_height_4 post f a1 a2 a3 a4 a5 a6 n (nI (pw_h a b (i + 1))) (nI (i + 1)) := hw () trivial
    refine pk_le ((if i = b then 1 else 0) + 1 + (if i = a then 1 else 0)) (pw_h a b i) (fun z => nm_r (nI_1 i) ?_) (fun z => nm_r (nI_1 i) ?_)
    · rw [pw_h_le ok hi z]
      exact t
    · rw [pw_h_lt ok hi z]
      exact t
/-- release of a thing -/
theorem pw_relG {post : Int32 → St2 → Prop} {f : Int32} {a1 a2 a3 a4 a5 a6 : Nat → Int32} {a b t : Nat} (ok : pw_ok a b) (k : pw_K a b a1 a2) (ht : t < 10)
    (H : ∀ A B : Nat → Int32, post (nI (if a < 10 ∧ b < 10 ∧ t ≠ a ∧ t ≠ b then 1 else 0)) (f, A, B, a3, a4, a5, a6)) : wpX_release post (f, a1, a2, a3, a4, a5, a6) (nI t) := by
  have hab : a < 11 ∧ b < 11 := by
    rcases ok with z | z <;> omega
  unfold wpX_release
  refine pw_thG ht (br_f (by decide) ?_)
  refine pk_loop (σ := (Nat → Int32) × (Nat → Int32)) (fun n i s => wX_release_11 post (nI t) f n (nI i) s.1 s.2 a3 a4 a5 a6)
    (fun i s => ∀ j, j < 10 → s.1 j = pw_s (if j = a then (if b = t ∧ j < i then 10 else b) else 10)) 10 0 (a1, a2) (by omega) (fun j hj => ?_) ?_ ?_
  · dsimp only
    rw [k.1 j hj]
    exact congrArg pw_s (by (repeat' split) <;> omega)
  · intro n s h
    refine pk_le 10 10 (fun _ => ⟨pk_in t 10 ht, nm_e ⟨pk_in t 10 ht, nm_e ?_⟩⟩) (fun z => absurd z (by omega))
    refine pw_pairs (c := fun j => pw_c a b t j) (fun j hj => ⟨?_, ?_⟩) ?_
    · unfold pw_c
      (repeat' split) <;> omega
    · rw [nI_clamp (show t < 2 ^ 31 by omega)]
      show upd s.1 t 0 j = pw_s (pw_c a b t j)
      by_cases e : j = t
      · rw [e, pk_us]
        unfold pw_c
        rw [if_pos rfl]
        rfl
      · rw [pk_un e, h j hj]
        unfold pw_c
        rw [if_neg e]
        exact congrArg pw_s (by (repeat' split) <;> omega)
    · rw [pw_cR t ht a hab.1 b hab.2]
      exact H _ _
  · intro n i s hi h hw
    refine pk_le 10 i (fun z => absurd z (by omega)) (fun _ => ⟨pk_in i 10 hi, pk_in i 10 hi, nm_e ⟨pk_in i 10 hi, pk_in i 10 hi, nm_e (nm_r (nI_1 i) (hw (_, _) ?_))⟩⟩)
    rw [nI_clamp (show i < 2 ^ 31 by omega)]
    intro j hj
    show upd s.1 i (s.1 i &&& (((1 : Int32) <<< (nI t &&& 31)) ^^^ (-1))) j = pw_s (if j = a then (if b = t ∧ j < i + 1 then 10 else b) else 10)
    by_cases e : j = i
    · rw [e, pk_us, h i hi, pw_rel _ (by (repeat' split) <;> omega) t ht]
      exact congrArg pw_s (by (repeat' split) <;> omega)
    · rw [pk_un e, h j hj]
      exact congrArg pw_s (by (repeat' split) <;> omega)
/-- release of no thing -/
theorem pw_relB {post : Int32 → St2 → Prop} {f : Int32} {a1 a2 a3 a4 a5 a6 : Nat → Int32} {x : Int32} (h : x < 0 ∨ 9 < x) (H : post (-1) (f, a1, a2, a3, a4, a5, a6)) : wpX_release post (f, a1, a2, a3, a4, a5, a6) x := by
  unfold wpX_release
  exact pw_thB h (br_t rfl H)
end
section
/-- release of no thing -/
theorem pw_182 {post : Int32 → St0 → Prop} {mc ms kc ks : Nat} {x0 x1 x2 x6 f : Int32} {a1 a2 a3 a4 a5 a6 : Nat → Int32} (h : x2 < 0 ∨ 9 < x2) (H : post 1 ()) :
    wL_lawOf_182 post mc ms x0 x1 x2 x6 kc ks f a1 a2 a3 a4 a5 a6 := by
  unfold wL_lawOf_182 wL_lawOf_183
  exact pw_relB h (br_t rfl (br_t rfl H))
/-- the law from the answer of before on -/
theorem pw_tailY {post : Int32 → St0 → Prop} {mc ms kc ks : Nat} {x2 z f : Int32} {a1 a2 a3 a4 a5 a6 : Nat → Int32} {a b : Nat} (ha : a < 10) (hb : b < 10) (hab : a ≠ b) (k : pw_K a b a1 a2) (H : post 1 ()) :
    wL_lawOf_125 post mc ms (nI a) (nI b) x2 1 z z kc ks f a1 a2 a3 a4 a5 a6 := by
  have ok : pw_ok a b := Or.inl ⟨ha, hb, hab⟩
  refine br_t rfl (pw_width ok k (fun g b3 b4 b5 b6 => ?_))
  rw [if_pos ha]
  refine br_f (by decide) (br_t rfl (pw_height ok k ?_))
  rw [if_pos ha]
  refine br_f (by decide) (br_t rfl (pw_two (fun h => pw_182 h H) (fun t ht e => ?_)))
  subst e
  refine pw_relG ok k ht (fun A B => br_f (by decide) (br_f (by decide) (pk_eq t a (fun q => ?_) (fun q => pk_eq t b (fun q2 => ?_) (fun q2 => ?_)))))
  · rw [if_neg (by omega)]
    exact br_t rfl H
  · rw [if_neg (by omega)]
    exact br_t rfl H
  · rw [if_pos ⟨ha, hb, q, q2⟩]
    exact br_t rfl H
theorem pw_tailN {post : Int32 → St0 → Prop} {mc ms kc ks : Nat} {x0 x1 x2 z f : Int32} {a1 a2 a3 a4 a5 a6 : Nat → Int32} (k : pw_K 10 10 a1 a2) (H : post 1 ()) :
    wL_lawOf_125 post mc ms x0 x1 x2 0 z z kc ks f a1 a2 a3 a4 a5 a6 := by
  have ok : pw_ok 10 10 := Or.inr ⟨rfl, rfl⟩
  refine br_t rfl (pw_width ok k (fun g b3 b4 b5 b6 => ?_))
  refine br_t rfl (br_t rfl (pw_height ok k ?_))
  refine br_t rfl (br_t rfl (pw_two (fun h => pw_182 h H) (fun t ht e => ?_)))
  subst e
  refine pw_relG ok k ht (fun A B => br_f (by decide) (br_t rfl ?_))
  exact br_t rfl H
theorem pw_K0 : pw_K 10 10 (fun _ => 0) (fun _ => 0) :=
  ⟨fun j hj => by rw [if_neg (by omega)]; rfl, fun j hj => by rw [if_neg (by omega)]; rfl⟩
/-- the law where nothing can be put -/
theorem pw_no {post : Int32 → St0 → Prop} {mc ms kc ks : Nat} {x0 x1 x2 x4 x5 f : Int32} {a3 a4 a5 a6 : Nat → Int32} (h : (x0 < 0 ∨ 9 < x0) ∧ x4 = 0 ∨ (x1 < 0 ∨ 9 < x1) ∧ (x4 = 0 ∨ x5 = 0) ∨ (∃ i : Nat, i < 10 ∧ x0 = nI i ∧ x1 = nI i ∧ x4 = 1 ∧ x5 = 1)) (H : post 1 ()) :
    wL_lawOf_61 post mc ms x0 x1 x2 x4 x5 kc ks f (fun _ => 0) (fun _ => 0) a3 a4 a5 a6 := by
  have hp : (x0 < 0 ∨ 9 < x0) ∨ (x1 < 0 ∨ 9 < x1) ∨ x0 = x1 := by
    rcases h with z | z | ⟨i, _, e0, e1, _⟩
    · exact Or.inl z.1
    · exact Or.inr (Or.inl z.1)
    · exact Or.inr (Or.inr (e0.trans e1.symm))
  have hq : (x1 < 0 ∨ 9 < x1) ∨ (x0 < 0 ∨ 9 < x0) ∨ x1 = x0 := by
    rcases hp with z | z | z
    · exact Or.inr (Or.inl z)
    · exact Or.inl z
    · exact Or.inr (Or.inr z.symm)
  unfold wL_lawOf_61 wL_lawOf_62
  refine pw_putB hp (br_t rfl (br_t rfl (pw_putB hq (br_t rfl ?_))))
  rcases h with z | z | ⟨i, hi, e0, e1, e4, e5⟩
  · exact pw_befB (Or.inl z.1) (br_t z.2 (pw_tailN pw_K0 H))
  · refine pw_befB (Or.inr z.1) (br_c (fun _ => pw_tailN pw_K0 H) (fun n4 => br_t ?_ (pw_tailN pw_K0 H)))
    rcases z.2 with q | q
    · exact absurd q n4
    · exact q
  · subst e0 e1 e4 e5
    exact pw_befG (o := 10) hi hi (by omega) rfl (br_f (by decide) (br_f (by decide) (br_t rfl (by rw [if_neg (show ¬ i = 10 by omega)]; exact pw_tailN pw_K0 H))))
/-- the law where the pair is put -/
theorem pw_yes {post : Int32 → St0 → Prop} {mc ms kc ks : Nat} {x2 f : Int32} {a3 a4 a5 a6 : Nat → Int32} {a b : Nat} (ha : a < 10) (hb : b < 10) (hab : a ≠ b) (H : post 1 ()) :
    wL_lawOf_62 post mc ms (nI a) (nI b) x2 1 1 1 kc ks f (fun _ => 0) (fun _ => 0) a3 a4 a5 a6 := by
  refine pw_putG ha hb hab (fun _ _ => rfl) (fun _ _ => rfl) (fun A B k => br_f (by decide) (br_t rfl (pw_putR ha hb hab k (br_t rfl ?_))))
  refine pw_befG (o := b) ha hb (by omega) (by rw [k.1 a ha, if_pos rfl]) (br_f (by decide) (br_f (by decide) (br_f (by decide) ?_)))
  rw [if_pos rfl]
  exact pw_tailY ha hb hab k H
theorem pw_40N {post : Int32 → St0 → Prop} {mc ms kc ks : Nat} {x0 x1 x2 f : Int32} {a3 a4 a5 a6 : Nat → Int32} (h0 : x0 < 0 ∨ 9 < x0) (H : post 1 ()) :
    wL_lawOf_22 post mc ms x0 x1 x2 kc ks f (fun _ => 0) (fun _ => 0) a3 a4 a5 a6 :=
  pw_two (fun _ => br_t rfl (pw_no (Or.inl ⟨h0, rfl⟩) H)) (fun _ _ _ => br_t rfl (pw_no (Or.inl ⟨h0, rfl⟩) H))
theorem pw_40Y {post : Int32 → St0 → Prop} {mc ms kc ks : Nat} {x1 x2 f : Int32} {a3 a4 a5 a6 : Nat → Int32} {a : Nat} (ha : a < 10) (H : post 1 ()) :
    wL_lawOf_23 post mc ms (nI a) x1 x2 1 kc ks f (fun _ => 0) (fun _ => 0) a3 a4 a5 a6 :=
  pw_two (fun h1 => br_f (by decide) (br_t rfl (pw_no (Or.inr (Or.inl ⟨h1, Or.inr rfl⟩)) H)))
    (fun b hb e => by
      subst e
      exact br_f (by decide) (br_f (by decide) (pk_eq a b (fun q => pw_no (Or.inr (Or.inr ⟨a, ha, rfl, by rw [q], rfl, rfl⟩)) H) (fun q => pw_yes ha hb q H))))
theorem pw_law (x0 x1 x2 : Int32) : wpL_lawOf (fun r _ => r = 1) 48 752 () x0 x1 x2 :=
  ⟨by omega, by omega, 6, 60, by omega, by omega, by omega, by omega, by omega, by omega, by omega, by omega, by omega, by omega, by omega, by omega, by omega, by omega,
    pw_two (fun h0 => pw_40N h0 rfl) (fun a ha e => by
      subst e
      exact pw_40Y ha rfl)⟩
theorem pw_cell {post : Int32 → Prop} {L : Nat} {xs : Nat → Int32} (k : Nat) (hL : L ≤ 3) (hk : k < 3) (H : ∀ r : Int32, post r) : wpL_cellAt post L xs () (nI k) :=
  pk_le L k (fun _ => H _) (fun z => ⟨pk_in k L z, H _⟩)
theorem i_vc (xs : Nat → Int32) (L : Nat) (hL : L ≤ 3) : wpL_law (fun r => r = 1) L xs :=
  pw_cell 0 hL (by omega) (fun r1 => pw_cell 1 hL (by omega) (fun r2 => pw_cell 2 hL (by omega) (fun r3 => ⟨48, 752, by omega, by omega, pw_law r1 r2 r3⟩)))
end
