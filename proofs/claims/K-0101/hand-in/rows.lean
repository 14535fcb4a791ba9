section
/-- one symbol's unit: 0 for the length 0, else 2^(32 - length), as both classes reckon it -/
def km_u (x : Int32) : Int64 := if x = 0 then 0 else (1 : Int64) <<< ((32 - x).toInt64 &&& 63)
/-- the units of the first n symbols, added in the reference's order -/
def km_S (a : Nat → Int32) : Nat → Int64
  | 0 => 0
  | n + 1 => km_S a n + km_u (a n)
/-- every one of the eight lengths is 0 .. 32 -/
def km_ok (a : Nat → Int32) : Prop := ∀ j : Nat, j < 8 → ∃ n : Nat, n < 33 ∧ a j = nI n
theorem km_u0 {x : Int32} (h : x = 0) : km_u x = 0 := if_pos h
theorem km_u1 {x : Int32} (h : ¬ x = 0) : km_u x = (1 : Int64) <<< ((32 - x).toInt64 &&& 63) := if_neg h
theorem km_us (a : Nat → Int32) (i : Nat) (x : Int32) : upd a i x i = x := if_pos rfl
theorem km_un (a : Nat → Int32) {i j : Nat} (x : Int32) (h : ¬ j = i) : upd a i x j = a j := if_neg h
/-- a unit lies in 0 .. 2^31 -/
theorem km_ub : ∀ n : Nat, n < 33 → 0 ≤ (km_u (nI n)).toInt ∧ (km_u (nI n)).toInt ≤ 2147483648 := by decide +kernel
/-- a length is a byte -/
theorem km_i8 : ∀ n : Nat, n < 33 → (nI n).toInt8.toInt32.toInt8.toInt32 = nI n := by decide +kernel
theorem km_nar {n : Nat} (h : n < 33) : vp_nar .byte (nI n).toInt8.toInt32 = nI n := by
  rw [vp_nar_byte]; exact km_i8 n h
theorem km_Sb {a : Nat → Int32} (ok : km_ok a) : ∀ n : Nat, n ≤ 8 → 0 ≤ (km_S a n).toInt ∧ (km_S a n).toInt ≤ 2147483648 * (n : Int) := by
  intro n
  induction n with
  | zero =>
    intro _
    have z : (km_S a 0).toInt = 0 := by show (0 : Int64).toInt = 0; decide
    rw [z]
    exact ⟨by omega, by omega⟩
  | succ n ih =>
    intro hn
    obtain ⟨l, u⟩ := ih (by omega)
    obtain ⟨m, hm, e⟩ := ok n (by omega)
    have hb := km_ub m hm
    rw [← e] at hb
    obtain ⟨l2, u2⟩ := hb
    have h : (km_S a (n + 1)).toInt = (km_S a n).toInt + (km_u (a n)).toInt := by
      show (km_S a n + km_u (a n)).toInt = _
      exact Jvm.Kit.i64_add (by omega) (by omega)
    rw [h]
    exact ⟨by omega, by omega⟩
theorem km_S8 {a : Nat → Int32} (ok : km_ok a) : 0 ≤ (km_S a 8).toInt ∧ (km_S a 8).toInt ≤ 17179869184 := by
  obtain ⟨l, u⟩ := km_Sb ok 8 (by omega)
  exact ⟨l, by omega⟩
theorem km_Sn (a : Nat → Int32) (i : Nat) (x : Int32) : ∀ n : Nat, n ≤ i → km_S (upd a i x) n = km_S a n := by
  intro n
  induction n with
  | zero => intro _; rfl
  | succ n ih =>
    intro hn
    show km_S (upd a i x) n + km_u (upd a i x n) = km_S a n + km_u (a n)
    rw [ih (by omega), km_un a x (by omega)]
theorem km_r1 (s p q : Int64) : s + q = s + p - p + q := by grind
theorem km_r2 (s p q w : Int64) : s - p + q + w = s + w - p + q := by grind
/-- one assignment changes the sum by the new unit less the old one -/
theorem km_Su (a : Nat → Int32) (i : Nat) (x : Int32) : ∀ n : Nat, i < n → km_S (upd a i x) n = km_S a n - km_u (a i) + km_u x := by
  intro n
  induction n with
  | zero => intro h; omega
  | succ n ih =>
    intro hn
    show km_S (upd a i x) n + km_u (upd a i x n) = km_S a n + km_u (a n) - km_u (a i) + km_u x
    by_cases e : n = i
    · rw [e, km_Sn a i x i (Nat.le_refl i), km_us]
      exact km_r1 _ _ _
    · rw [ih (by omega), km_un a x e]
      exact km_r2 _ _ _ _
theorem km_oku {a : Nat → Int32} (ok : km_ok a) (i m : Nat) (hm : m < 33) : km_ok (upd a i (nI m)) := by
  intro j hj
  by_cases e : j = i
  · rw [e]
    exact ⟨m, hm, km_us a i (nI m)⟩
  · rw [km_un a (nI m) e]
    exact ok j hj
/-- the reference asks whether room is left, the class whether the sum is below the full one -/
theorem km_room {s : Int64} (l : 0 ≤ s.toInt) (u : s.toInt ≤ 17179869184) : 0 < 4294967296 - s ↔ s < 4294967296 := by
  have e : (4294967296 : Int64).toInt = 4294967296 := by decide +kernel
  have z : (0 : Int64).toInt = 0 := by decide +kernel
  have h : ((4294967296 : Int64) - s).toInt = 4294967296 - s.toInt := by
    rw [Jvm.Kit.i64_sub (by rw [e]; omega) (by rw [e]; omega), e]
  rw [Int64.lt_iff_toInt_lt, Int64.lt_iff_toInt_lt, h, e, z]
  omega
end
section
theorem km_x62 {post : Int32 → SX → Prop} {x1 x2 x3 : Int32} {x4 x6 f : Int64} {a : Nat → Int32} (hi : vp_in x1 8) (h : post x3 ((f - x4) + x6, upd a x1.toNatClampNeg (vp_nar .byte x2.toInt8.toInt32))) : wX_assign_62 post x1 x2 x3 x4 x6 f a :=
  And.intro hi (nm_e (nm_e h))
theorem km_x47 {post : Int32 → SX → Prop} {x1 x2 x3 : Int32} {x4 f : Int64} {a : Nat → Int32} (hi : vp_in x1 8) (h : post x3 ((f - x4) + km_u x2, upd a x1.toNatClampNeg (vp_nar .byte x2.toInt8.toInt32))) : wX_assign_47 post x1 x2 x3 x4 f a := by
  refine br_c (fun z => ?_) (fun z => ?_)
  · rw [km_u0 z] at h
    exact km_x62 hi h
  · rw [km_u1 z] at h
    exact nm_e (km_x62 hi h)
theorem km_xa {post : Int32 → SX → Prop} {p0 p1 : Int32} {f : Int64} {a : Nat → Int32} (h0 : ¬ p0 < 0) (h7 : p0 ≤ 7) (l0 : ¬ p1 < 0) (l32 : p1 ≤ 32) (hi : vp_in p0 8) (h : post (a p0.toNatClampNeg) ((f - km_u (a p0.toNatClampNeg)) + km_u p1, upd a p0.toNatClampNeg (vp_nar .byte p1.toInt8.toInt32))) : wpX_assign post (f, a) p0 p1 := by
  refine br_f h0 (br_t h7 (br_f l0 (br_t l32 ⟨hi, nm_e (br_c (fun z => ?_) (fun z => nm_e ?_))⟩)))
  · rw [km_u0 z] at h
    exact km_x47 hi h
  · rw [km_u1 z] at h
    exact km_x47 hi h
theorem km_ya {post : Int32 → SY → Prop} {p0 p1 : Int32} {a : Nat → Int32} (h0 : ¬ p0 < 0) (h7 : p0 ≤ 7) (l0 : ¬ p1 < 0) (l32 : p1 ≤ 32) (hi : vp_in p0 8) (h : post (a p0.toNatClampNeg) (upd a p0.toNatClampNeg (vp_nar .byte p1.toInt8.toInt32))) : wpY_assign post a p0 p1 :=
  br_f h0 (br_t h7 (br_f l0 (br_t l32 ⟨hi, nm_e ⟨hi, nm_e h⟩⟩)))
theorem km_8 : nI 8 = 8 := by decide +kernel
theorem km_yl {post : Int64 → Prop} (a : Nat → Int32) (hp : post (km_S a 8)) : ∀ d j : Nat, j + d = 8 → wY_sum_4 post a (d + 1) (km_S a j) (nI j) := by
  intro d
  induction d with
  | zero =>
    intro j hj
    have e : j = 8 := by omega
    cases e
    have h : (8 : Int32) ≤ nI 8 := by decide +kernel
    exact br_t h hp
  | succ d ih =>
    intro j hj
    have h : ¬ (8 : Int32) ≤ nI j := by rw [← km_8]; exact nI_ge (by omega) (by omega)
    have hi : vp_in (nI j) 8 := vp_in_nI (by omega) (by omega)
    have c : (nI j).toNatClampNeg = j := nI_clamp (by omega)
    have n := ih (j + 1) (by omega)
    have s : km_S a (j + 1) = km_S a j + km_u (a j) := rfl
    refine br_f h ⟨hi, br_c (fun z => nm_r (nI_1 j) ?_) (fun z => ⟨hi, nm_r (e' := km_S a (j + 1)) ?_ (nm_r (nI_1 j) n)⟩)⟩
    · rw [c] at z
      rw [s, km_u0 z, Int64.add_zero] at n
      exact n
    · rw [c] at z ⊢
      rw [s, km_u1 z]
/-- the reference's sum, under any post -/
theorem km_ys {post : Int64 → Prop} (a : Nat → Int32) (hp : post (km_S a 8)) : wpY_sum post a := by
  have h := km_yl a hp 8 0 rfl
  rw [nI_0] at h
  exact ⟨9, h⟩
end
section
/-- the same eight lengths, each 0 .. 32, and the class's running sum is the sum of their units -/
def i_Rel (_ : Nat) (u : SX) (v : SY) : Prop := u = (km_S v 8, v) ∧ km_ok v
theorem i_up {k : Nat} {u : SX} {v : SY} (h : i_Rel k u v) : i_Rel (k + 3) u v := h
theorem km_s0 : km_S (fun _ => 0) 8 = 0 := by decide +kernel
theorem i_vc0 : wpX_init (fun u => wpY_init (fun v => i_Rel 0 u v)) := by
  show ((0 : Int64), (fun _ : Nat => (0 : Int32))) = (km_S (fun _ => 0) 8, fun _ => 0) ∧ km_ok (fun _ => 0)
  rw [km_s0]
  exact ⟨rfl, fun j _ => ⟨0, by omega, nI_0.symm⟩⟩
theorem i_vc_assign {k : Nat} {u : SX} {v : SY} (I : i_Rel k u v) (hk : k + 3 ≤ 1536) (v1 : Int32) (v2 : Int32) : wpX_assign (fun r u' => wpY_assign (fun r' v' => r' = r ∧ i_Rel (k + 3) u' v') v v1 v2) u v1 v2 := by
  obtain ⟨rfl, ok⟩ := I
  by_cases h0 : v1 < 0
  · exact br_t h0 (br_t h0 ⟨rfl, rfl, ok⟩)
  · by_cases h7 : v1 ≤ 7
    · by_cases l0 : v2 < 0
      · exact br_f h0 (br_t h7 (br_t l0 (br_f h0 (br_t h7 (br_t l0 ⟨rfl, rfl, ok⟩)))))
      · by_cases l32 : v2 ≤ 32
        · obtain ⟨i, hi, rfl⟩ := nI_of2 (M := 7) (n := 7) (by decide +kernel) h0 h7
          obtain ⟨m, hm, rfl⟩ := nI_of2 (M := 32) (n := 32) (by decide +kernel) l0 l32
          have hv : vp_in (nI i) 8 := vp_in_nI (by omega) (by omega)
          refine km_xa h0 h7 l0 l32 hv (km_ya h0 h7 l0 l32 hv ⟨rfl, ?_⟩)
          rw [nI_clamp (n := i) (by omega), km_nar (by omega)]
          refine ⟨?_, km_oku ok i m (by omega)⟩
          rw [km_Su v i (nI m) 8 (by omega)]
        · exact br_f h0 (br_t h7 (br_f l0 (br_f l32 (br_f h0 (br_t h7 (br_f l0 (br_f l32 ⟨rfl, rfl, ok⟩)))))))
    · exact br_f h0 (br_f h7 (br_f h0 (br_f h7 ⟨rfl, rfl, ok⟩)))
theorem i_vc_verdict {k : Nat} {u : SX} {v : SY} (I : i_Rel k u v) (hk : k + 3 ≤ 1536) : wpX_verdict (fun r => wpY_verdict (fun r' => r' = r ∧ i_Rel (k + 3) u v) v) u := by
  obtain ⟨rfl, ok⟩ := I
  refine br_c (fun h => br_c (fun e => km_ys v ?_) (fun e => km_ys v ?_)) (fun h => km_ys v ?_)
  · exact br_t h (br_t e ⟨rfl, rfl, ok⟩)
  · exact br_t h (br_f e ⟨rfl, rfl, ok⟩)
  · exact br_f h ⟨rfl, rfl, ok⟩
theorem i_vc_slack {k : Nat} {u : SX} {v : SY} (I : i_Rel k u v) (hk : k + 3 ≤ 1536) (v1 : Int32) : wpX_slack (fun r => wpY_slack (fun r' => r' = r ∧ i_Rel (k + 3) u v) v v1) u v1 := by
  obtain ⟨rfl, ok⟩ := I
  obtain ⟨l, b⟩ := km_S8 ok
  have e := km_room l b
  refine br_c (fun h1 => br_t h1 ⟨rfl, rfl, ok⟩) (fun h1 => br_c (fun h32 => br_c (fun hs => nm_e ?_) (fun hs => ?_)) (fun h32 => br_f h1 (br_f h32 ⟨rfl, rfl, ok⟩)))
  · refine br_c (fun hr => br_f h1 (br_t h32 (km_ys v (nm_e (br_t (e.mpr hs) (nm_e (br_t hr ⟨rfl, rfl, ok⟩))))))) (fun hr => br_f h1 (br_t h32 (km_ys v (nm_e (br_t (e.mpr hs) (nm_e (br_f hr ⟨rfl, rfl, ok⟩)))))))
  · exact br_f h1 (br_t h32 (km_ys v (nm_e (br_f (fun z => hs (e.mp z)) ⟨rfl, rfl, ok⟩))))
theorem i_vc_sum {k : Nat} {u : SX} {v : SY} (I : i_Rel k u v) (hk : k + 3 ≤ 1536) : wpX_sum (fun r => wpY_sum (fun r' => r' = r ∧ i_Rel (k + 3) u v) v) u := by
  obtain ⟨rfl, ok⟩ := I
  exact km_ys v ⟨rfl, rfl, ok⟩
end
