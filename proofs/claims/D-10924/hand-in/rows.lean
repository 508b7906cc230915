section
/-- no job is in use -/
def so_E (a1 : Nat → Int32) : Prop := ∀ j, j < 10 → a1 j = 0
/-- a bad time -/
def so_T (x : Int32) : Prop := x < 0 ∨ 1000000000 < x
/-- a bad period -/
def so_P (x : Int32) : Prop := x < 2 ∨ 360 < x ∨ ¬ (360 - 360 / x * x) = 0
/-- one job, in place 0 -/
def so_J (p c o : Nat) (a1 a2 a3 a4 : Nat → Int32) : Prop := 2 ≤ p ∧ p ≤ 360 ∧ 1 ≤ c ∧ c ≤ p ∧ o < p ∧ ¬ a1 0 = 0 ∧ (∀ j, 0 < j → j < 10 → a1 j = 0) ∧ a2 0 = nI p ∧ a3 0 = nI c ∧ a4 0 = nI o
theorem so_ne0 {x : Int32} (h : ¬ x < 2) : ¬ x = 0 := fun e => h (by rw [e]; decide)
theorem so_good {x : Int32} (h : ¬ so_P x) : ∃ p : Nat, 2 ≤ p ∧ p ≤ 360 ∧ x = nI p := by
  have h1 : ¬ x < 2 := fun z => h (Or.inl z)
  have h2 : x ≤ 360 := Int32.not_lt.mp (fun z => h (Or.inr (Or.inl z)))
  have h0 : ¬ x < 0 := fun z => h1 (Int32.lt_of_lt_of_le z (by decide))
  obtain ⟨j, hj, e⟩ := nI_of2 (M := 360) (n := 360) (by decide) h0 h2
  refine ⟨j, ?_, hj, e⟩
  rcases Nat.lt_or_ge j 2 with z | z
  · exact absurd (show x < 2 by rw [e]; exact nI_lt (b := 2) z (by decide)) h1
  · exact z
theorem so_ix {x : Int32} (h : ¬ x < 0) (g : ¬ 10 ≤ x) : ∃ j : Nat, j < 10 ∧ x = nI j := by
  rcases pk_ix x (n := 10) (by omega) with z | z | z
  · exact absurd z h
  · exact absurd z g
  · exact z
theorem so_cell {post : Int32 → Prop} {L : Nat} {xs : Nat → Int32} {u : St0} {x : Int32} (k : Nat) (hL : L ≤ 6) (hk : k < 6) (H : ∀ r, post r) (hx : x = nI k := by rfl) : wpL_cellAt post L xs u x :=
  pk_le L k (fun _ => H 0) (fun z => ⟨pk_in k L z hx (by omega), H _⟩) rfl hx (by omega) (by omega)
theorem so_badTime {post : Int32 → Prop} {u : St0} {x : Int32} (hb : so_T x → post 1) (hg : ¬ so_T x → post 0) : wpX_badTime post u x :=
  br_c (fun h => hb (Or.inl h)) (fun h => br_c (fun g => hg (fun t => Or.elim t h (fun q => absurd g (Int32.not_le.mpr q)))) (fun g => hb (Or.inr (Int32.not_le.mp g))))
theorem so_badPeriod {post : Int32 → Prop} {u : St0} {x : Int32} (hb : so_P x → post 1) (hg : ¬ so_P x → post 0) : wpX_badPeriod post u x :=
  br_c (fun h => hb (Or.inl h)) (fun h => br_c (fun g => hb (Or.inr (Or.inl g))) (fun g => ⟨so_ne0 h, br_c (fun e => hg (fun t => Or.elim t h (fun t => Or.elim t g (fun q => q e)))) (fun e => hb (Or.inr (Or.inr e)))⟩))
section
variable {f : Int32} {a1 a2 a3 a4 : Nat → Int32}
theorem so_noJobE {post : Int32 → Prop} {x : Int32} (E : so_E a1) (H : post 1) : wpX_noJob post (f, a1, a2, a3, a4) x := by
  unfold wpX_noJob
  refine br_c (fun _ => H) (fun h => br_c (fun _ => H) (fun g => ?_))
  obtain ⟨j, hj, e⟩ := so_ix h g
  exact ⟨pk_in j 10 hj e, br_t (by rw [e, nI_clamp (by omega)]; exact E j hj) H⟩
theorem so_noJobJ {post : Int32 → Prop} {x : Int32} (h0 : ¬ a1 0 = 0) (h1 : ∀ j, 0 < j → j < 10 → a1 j = 0) (Hy : x = 0 → post 0) (Hn : ¬ x = 0 → post 1) : wpX_noJob post (f, a1, a2, a3, a4) x := by
  unfold wpX_noJob
  refine br_c (fun z => Hn (fun e => ?_)) (fun h => br_c (fun z => Hn (fun e => ?_)) (fun g => ?_))
  · rw [e] at z
    exact absurd z (by decide)
  · rw [e] at z
    exact absurd z (by decide)
  obtain ⟨j, hj, e⟩ := so_ix h g
  refine ⟨pk_in j 10 hj e, ?_⟩
  rw [e, nI_clamp (by omega)]
  rcases Nat.eq_zero_or_pos j with z | z
  · subst z
    exact br_f h0 (Hy e)
  · exact br_t (h1 j z hj) (Hn (by rw [e]; exact nI_ne0 z (by omega)))
theorem so_offsetE {post : Int32 → Prop} {x : Int32} (E : so_E a1) (H : post (-6)) : wpX_offset post (f, a1, a2, a3, a4) x := by
  unfold wpX_offset
  exact so_noJobE E (br_f (by decide) H)
theorem so_offsetJ {post : Int32 → Prop} {x : Int32} (h0 : ¬ a1 0 = 0) (h1 : ∀ j, 0 < j → j < 10 → a1 j = 0) (Hy : x = 0 → post (a4 0)) (Hn : ¬ x = 0 → post (-6)) : wpX_offset post (f, a1, a2, a3, a4) x := by
  unfold wpX_offset
  refine so_noJobJ h0 h1 (fun e => br_t rfl ⟨pk_in 0 10 (by omega) e, ?_⟩) (fun e => br_f (by decide) (Hn e))
  rw [show x.toNatClampNeg = 0 from pk_cl 0 e]
  exact Hy e
theorem so_removeE {post : Int32 → St2 → Prop} {x : Int32} (E : so_E a1) (H : post (-6) (f, a1, a2, a3, a4)) : wpX_remove post (f, a1, a2, a3, a4) x := by
  unfold wpX_remove
  exact so_noJobE E (br_f (by decide) H)
theorem so_removeJ {post : Int32 → St2 → Prop} {x : Int32} (h0 : ¬ a1 0 = 0) (h1 : ∀ j, 0 < j → j < 10 → a1 j = 0) (Hy : x = 0 → ∀ s, post (f - 1) s) (Hn : ¬ x = 0 → post (-6) (f, a1, a2, a3, a4)) : wpX_remove post (f, a1, a2, a3, a4) x := by
  unfold wpX_remove
  exact so_noJobJ h0 h1 (fun e => br_t rfl ⟨pk_in 0 10 (by omega) e, nm_e (nm_e (Hy e _))⟩) (fun e => br_f (by decide) (Hn e))
theorem so_free33 {post : Int32 → Prop} {x1 x2 v : Int32} (E : so_E a1) (H : post v) : ∃ n, wX_free_33 post x1 x2 f a1 a2 a3 a4 n v 0 :=
  pk_loop (σ := Unit) (fun n i _ => wX_free_33 post x1 x2 f a1 a2 a3 a4 n v (nI i)) (fun _ _ => True) 10 0 () (by omega) trivial
    (fun n _ _ => pk_le 10 10 (fun _ => H) (fun z => absurd z (by omega)))
    (fun n i _ hi _ hw => pk_le 10 i (fun z => absurd z (by omega)) (fun _ => ⟨pk_in i 10 hi, br_t (by rw [nI_clamp (by omega)]; exact E i hi) (nm_r (nI_1 i) (hw () trivial))⟩))
theorem so_freeE {post : Int32 → Prop} {x y : Int32} (E : so_E a1) (Hb : so_T x ∨ so_T y → post (-7)) (H1 : ¬ (so_T x ∨ so_T y) → x ≤ y → post ((y - x) + 1)) (H0 : ¬ (so_T x ∨ so_T y) → ¬ x ≤ y → post 0) : wpX_free post (f, a1, a2, a3, a4) x y := by
  unfold wpX_free
  refine so_badTime (fun h => br_f (by decide) (Hb (Or.inl h))) (fun h => br_t rfl (so_badTime (fun g => br_f (by decide) (Hb (Or.inr g))) (fun g => br_t rfl ?_)))
  have hn : ¬ (so_T x ∨ so_T y) := fun t => Or.elim t h g
  exact br_c (fun z => nm_e (so_free33 E (H1 hn z))) (fun z => H0 hn z)
theorem so_loadE {post : Int32 → Prop} (E : so_E a1) (H : post 0) : wpX_load post (f, a1, a2, a3, a4) :=
  pk_loop (σ := Unit) (fun n i _ => wX_load_4 post f a1 a2 a3 a4 n 0 (nI i)) (fun _ _ => True) 10 0 () (by omega) trivial
    (fun n _ _ => pk_le 10 10 (fun _ => H) (fun z => absurd z (by omega)))
    (fun n i _ hi _ hw => pk_le 10 i (fun z => absurd z (by omega)) (fun _ => ⟨pk_in i 10 hi, br_t (by rw [nI_clamp (by omega)]; exact E i hi) (nm_r (nI_1 i) (hw () trivial))⟩))
theorem so_roomAtE {post : Int32 → Prop} {p : Nat} {y : Int32} (h2 : 2 ≤ p) (hp : p ≤ 360) (E : so_E a1) (H : post (nI p)) : wpX_roomAt post (f, a1, a2, a3, a4) (nI p) y :=
  pk_loop (σ := Unit) (fun n i _ => wX_roomAt_5 post (nI p) y f a1 a2 a3 a4 n (nI p) (nI i)) (fun _ _ => True) 10 0 () (by omega) trivial
    (fun n _ _ => pk_le 10 10 (fun _ => H) (fun z => absurd z (by omega)))
    (fun n i _ hi _ hw => pk_le 10 i (fun z => absurd z (by omega)) (fun _ => pk_le p 0 (fun z => absurd z (by omega)) (fun _ => ⟨pk_in i 10 hi, br_t (by rw [nI_clamp (by omega)]; exact E i hi) (nm_r (nI_1 i) (hw () trivial))⟩)))
theorem so_roomB {post : Int32 → Prop} {x : Int32} (h : so_P x) (H : post (-1)) : wpX_room post (f, a1, a2, a3, a4) x := by
  unfold wpX_room
  exact so_badPeriod (fun _ => br_f (by decide) H) (fun z => absurd h z)
theorem so_roomE {post : Int32 → Prop} {p : Nat} (h : ¬ so_P (nI p)) (h2 : 2 ≤ p) (hp : p ≤ 360) (E : so_E a1) (H : post (nI p)) : wpX_room post (f, a1, a2, a3, a4) (nI p) := by
  unfold wpX_room
  refine so_badPeriod (fun z => absurd z h) (fun _ => br_t rfl ?_)
  exact pk_loop (σ := Nat) (fun n i m => wX_room_13 post (nI p) f a1 a2 a3 a4 n (nI m) (nI i)) (fun i m => m ≤ p ∧ (0 < i → m = p)) p 0 0 (by omega) ⟨by omega, fun z => absurd z (by omega)⟩
    (fun n m hm => pk_le p p (fun _ => by rw [hm.2 (by omega)]; exact H) (fun z => absurd z (by omega)))
    (fun n i m hi hm hw => pk_le p i (fun z => absurd z (by omega)) (fun _ => so_roomAtE h2 hp E (pk_le p m (fun z => nm_r (nI_1 i) (hw m ⟨hm.1, fun _ => by omega⟩)) (fun z => nm_r (nI_1 i) (hw p ⟨Nat.le_refl p, fun _ => rfl⟩)) rfl rfl (by omega) (by omega))))
theorem so_take {post : Int32 → St2 → Prop} {x y z : Int32} (E : so_E a1) (H : post 0 (f + 1, upd a1 0 1, upd a2 0 x, upd a3 0 y, upd a4 0 z)) : wpX_take post (f, a1, a2, a3, a4) x y z :=
  ⟨1, pk_le 9 0 (fun z => absurd z (by omega)) (fun _ => ⟨pk_in 0 10 (by omega), br_t (E 0 (by omega)) ⟨pk_in 0 10 (by omega), nm_e ⟨pk_in 0 10 (by omega), nm_e ⟨pk_in 0 10 (by omega), nm_e ⟨pk_in 0 10 (by omega), nm_e (nm_e H)⟩⟩⟩⟩⟩)⟩
theorem so_admitB {post : Int32 → St2 → Prop} {x y z : Int32} (h : so_P x) (H : post (-1) (f, a1, a2, a3, a4)) : wpX_admitAt post (f, a1, a2, a3, a4) x y z := by
  unfold wpX_admitAt
  exact so_badPeriod (fun _ => br_f (by decide) H) (fun z => absurd h z)
theorem so_admitL {post : Int32 → St2 → Prop} {x y z : Int32} (h : ¬ so_P x) (hl : y < 1 ∨ ¬ y ≤ x) (H : post (-2) (f, a1, a2, a3, a4)) : wpX_admitAt post (f, a1, a2, a3, a4) x y z := by
  unfold wpX_admitAt
  refine so_badPeriod (fun z => absurd z h) (fun _ => br_t rfl (br_c (fun _ => H) (fun g => br_f (Or.elim hl (fun t => absurd t g) id) H)))
theorem so_admitO {post : Int32 → St2 → Prop} {x y z : Int32} (h : ¬ so_P x) (h1 : ¬ y < 1) (h2 : y ≤ x) (ho : z < 0 ∨ ¬ z < x) (H : post (-3) (f, a1, a2, a3, a4)) : wpX_admitAt post (f, a1, a2, a3, a4) x y z := by
  unfold wpX_admitAt
  refine so_badPeriod (fun z => absurd z h) (fun _ => br_t rfl (br_f h1 (br_t h2 (br_c (fun _ => H) (fun g => br_f (Or.elim ho (fun t => absurd t g) id) H)))))
theorem so_admitOk {post : Int32 → St2 → Prop} {p : Nat} {y z : Int32} (h : ¬ so_P (nI p)) (hp2 : 2 ≤ p) (hp : p ≤ 360) (h1 : ¬ y < 1) (h2 : y ≤ nI p) (h3 : ¬ z < 0) (h4 : z < nI p) (hf : f < 10) (E : so_E a1)
    (H : post 0 (f + 1, upd a1 0 1, upd a2 0 (nI p), upd a3 0 y, upd a4 0 z)) : wpX_admitAt post (f, a1, a2, a3, a4) (nI p) y z := by
  unfold wpX_admitAt
  refine so_badPeriod (fun z => absurd z h) (fun _ => br_t rfl (br_f h1 (br_t h2 (br_f h3 (br_t h4 (br_t hf (so_roomAtE hp2 hp E (br_t h2 (so_take E ?_)))))))))
  exact H
end
end
section
/-- how far i lies behind o, round p -/
def so_b (p o i : Nat) : Nat := if o ≤ i then i - o else p + i - o
/-- the room at i beside the one job -/
def so_v (p c o i : Nat) : Nat := if c ≤ so_b p o i then p - so_b p o i else 0
theorem so_vle {p c o i : Nat} : so_v p c o i ≤ p - c := by
  unfold so_v
  split <;> omega
theorem so_vmax {p c o m : Nat} (hc : 1 ≤ c) (ho : o < p) (hm : m ≤ p - c) (h : ∀ j, j < p → so_v p c o j ≤ m) : m = p - c := by
  rcases Nat.lt_or_ge c p with z | z
  · rcases Nat.lt_or_ge (o + c) p with q | q
    · have t := h (o + c) q
      have e : so_b p o (o + c) = c := by
        unfold so_b
        rw [if_pos (by omega)]
        omega
      unfold so_v at t
      rw [e, if_pos (Nat.le_refl c)] at t
      omega
    · have t := h (o + c - p) (by omega)
      have e : so_b p o (o + c - p) = c := by
        unfold so_b
        rw [if_neg (by omega)]
        omega
      unfold so_v at t
      rw [e, if_pos (Nat.le_refl c)] at t
      omega
  · omega
theorem so_gcd {post : Int32 → Prop} {u : St0} {p : Nat} (h2 : 2 ≤ p) (hp : p ≤ 360) (H : post (nI p)) : wpX_gcd post u (nI p) (nI p) := by
  have t : wX_gcd_7 post 1 (nI p) (nI (p % p)) (nI 1) := by
    rw [Nat.mod_self]
    exact pk_le 20 1 (fun z => absurd z (by omega)) (fun _ => pk_le 0 0 (fun _ => H) (fun z => absurd z (by omega)))
  exact ⟨2, pk_le 20 0 (fun z => absurd z (by omega)) (fun _ => pk_le p 0 (fun z => absurd z (by omega)) (fun _ => ⟨nI_ne0 (by omega) (by omega), nm_r (pk_rem (by omega) (by omega) (by omega)) (nm_r (nI_1 0) t)⟩))⟩
theorem so_div0 {p o i : Nat} (hp : p ≤ 360) (ho : o < p) (hi : i < o) : (nI i - nI o) / nI p = 0 := by
  apply Int32.toInt_inj.mp
  rw [Int32.toInt_div, pk_sub_toInt (by omega) (by omega), nI_toInt (by omega)]
  have e : (i : Int) - (o : Int) = -(((o - i : Nat) : Int)) := by omega
  rw [e, Int.neg_tdiv, Int.tdiv_eq_zero_of_lt (by omega) (by omega)]
  decide
theorem so_neg {p o i : Nat} (hp : p ≤ 360) (ho : o < p) (hi : i < o) : (nI i - nI o) - (nI i - nI o) / nI p * nI p = nI i - nI o := by
  rw [so_div0 hp ho hi, Int32.zero_mul, Int32.sub_zero]
theorem so_wrap {p o i : Nat} (ho : o < p) : nI i - nI o + nI p = nI (p + i - o) := by
  have e : nI i - nI o + nI p = nI p + nI i - nI o := by grind
  rw [e, nI_add, pk_sub (by omega)]
section
variable {f : Int32} {a1 a2 a3 a4 : Nat → Int32}
theorem so_37 {post : Int32 → Prop} {p c o i : Nat} {x : Int32} (hp : p ≤ 360) (hc : c ≤ p) (ho : o < p) (hi : i < p) (e3 : a3 0 = nI c) (hx : x = nI (so_b p o i)) (H : post (nI (so_v p c o i))) : wX_roomBeside_37 post 0 (nI p) x f a1 a2 a3 a4 := by
  have hb : so_b p o i < p := by
    unfold so_b
    split <;> omega
  subst hx
  refine ⟨pk_in 0 10 (by omega), pk_le c (so_b p o i) (fun z => ?_) (fun z => ?_) e3 rfl (by omega) (by omega)⟩
  · unfold so_v at H
    rw [if_pos z] at H
    rw [pk_sub (by omega)]
    exact H
  · unfold so_v at H
    rw [if_neg (by omega)] at H
    exact H
theorem so_rb {post : Int32 → Prop} {p c o i : Nat} (J : so_J p c o a1 a2 a3 a4) (hi : i < p) (H : post (nI (so_v p c o i))) : wpX_roomBeside post (f, a1, a2, a3, a4) 0 (nI p) (nI i) := by
  obtain ⟨h2, hp, hc, hcp, ho, j1, j2, e2, e3, e4⟩ := J
  unfold wpX_roomBeside
  refine ⟨pk_in 0 10 (by omega), ?_⟩
  rw [show a2 (0 : Int32).toNatClampNeg = nI p from e2]
  refine so_gcd h2 hp ⟨pk_in 0 10 (by omega), nI_ne0 (by omega) (by omega), ?_⟩
  rw [show a4 (0 : Int32).toNatClampNeg = nI o from e4]
  rcases Nat.lt_or_ge i o with z | z
  · refine nm_r (so_neg hp ho z) (br_f (Int32.not_le.mpr (pk_sneg (by omega) z)) (nm_r (so_wrap ho) (so_37 hp hcp ho hi e3 ?_ H)))
    unfold so_b
    rw [if_neg (by omega)]
  · refine nm_r (e' := nI (i - o)) ?_ (br_t (nI_pos' (by omega)) (so_37 hp hcp ho hi e3 ?_ H))
    · rw [pk_sub z, pk_rem (by omega) (by omega) (by omega), Nat.mod_eq_of_lt (by omega)]
    · unfold so_b
      rw [if_pos z]
theorem so_ra1 {post : Int32 → Prop} {x y : Int32} {v : Nat} (hv : v ≤ 360) (j2 : ∀ j, 0 < j → j < 10 → a1 j = 0) (H : post (nI v)) : ∃ n, wX_roomAt_5 post x y f a1 a2 a3 a4 n (nI v) (nI 1) :=
  pk_loop (σ := Unit) (fun n i _ => wX_roomAt_5 post x y f a1 a2 a3 a4 n (nI v) (nI i)) (fun i _ => 0 < i) 10 1 () (by omega) (by omega)
    (fun n _ _ => pk_le 10 10 (fun _ => H) (fun z => absurd z (by omega)))
    (fun n i _ hi h0 hw => pk_le 10 i (fun z => absurd z (by omega)) (fun _ => pk_le v 0 (fun _ => H) (fun _ => ⟨pk_in i 10 hi, br_t (by rw [nI_clamp (by omega)]; exact j2 i h0 hi) (nm_r (nI_1 i) (hw () (Nat.succ_pos i)))⟩)))
theorem so_roomAtJ {post : Int32 → Prop} {p c o i : Nat} (J : so_J p c o a1 a2 a3 a4) (hi : i < p) (H : post (nI (so_v p c o i))) : wpX_roomAt post (f, a1, a2, a3, a4) (nI p) (nI i) := by
  have hv : so_v p c o i ≤ p - c := so_vle
  have J' := J
  obtain ⟨h2, hp, hc, hcp, ho, j1, j2, e2, e3, e4⟩ := J'
  obtain ⟨n, hn⟩ := so_ra1 (x := nI p) (y := nI i) (f := f) (a2 := a2) (a3 := a3) (a4 := a4) (v := so_v p c o i) (by omega) j2 H
  exact ⟨n + 1, pk_le 10 0 (fun z => absurd z (by omega)) (fun _ => pk_le p 0 (fun z => absurd z (by omega)) (fun _ => ⟨pk_in 0 10 (by omega), br_f j1 (so_rb J hi (pk_le p (so_v p c o i) (fun z => absurd z (by omega)) (fun _ => nm_r (nI_1 0) hn) rfl rfl (by omega) (by omega)))⟩))⟩
theorem so_roomJ {post : Int32 → Prop} {p c o : Nat} (h : ¬ so_P (nI p)) (J : so_J p c o a1 a2 a3 a4) (H : post (nI (p - c))) : wpX_room post (f, a1, a2, a3, a4) (nI p) := by
  have J' := J
  obtain ⟨h2, hp, hc, hcp, ho, _⟩ := J'
  unfold wpX_room
  refine so_badPeriod (fun z => absurd z h) (fun _ => br_t rfl ?_)
  exact pk_loop (σ := Nat) (fun n i m => wX_room_13 post (nI p) f a1 a2 a3 a4 n (nI m) (nI i)) (fun i m => m ≤ p - c ∧ ∀ j, j < i → so_v p c o j ≤ m) p 0 0 (by omega) ⟨by omega, fun j z => absurd z (by omega)⟩
    (fun n m hm => pk_le p p (fun _ => by rw [so_vmax hc ho hm.1 hm.2]; exact H) (fun z => absurd z (by omega)))
    (fun n i m hi hm hw => pk_le p i (fun z => absurd z (by omega)) (fun _ => so_roomAtJ J hi (pk_le (so_v p c o i) m (fun z => nm_r (nI_1 i) (hw m ⟨hm.1, lt_s hm.2 z⟩)) (fun z => nm_r (nI_1 i) (hw (so_v p c o i) ⟨so_vle, lt_s (fun a ha => Nat.le_trans (hm.2 a ha) (Nat.le_of_lt z)) (Nat.le_refl _)⟩)) rfl rfl (Nat.lt_of_le_of_lt so_vle (by omega)) (Nat.lt_of_le_of_lt hm.1 (by omega)))))
theorem so_loadJ {post : Int32 → Prop} {p c o : Nat} (J : so_J p c o a1 a2 a3 a4) (H : post (360 / nI p * nI c)) : wpX_load post (f, a1, a2, a3, a4) := by
  obtain ⟨h2, hp, hc, hcp, ho, j1, j2, e2, e3, e4⟩ := J
  have L : ∃ n, wX_load_4 post f a1 a2 a3 a4 n (360 / nI p * nI c) (nI 1) :=
    pk_loop (σ := Unit) (fun n i _ => wX_load_4 post f a1 a2 a3 a4 n (360 / nI p * nI c) (nI i)) (fun i _ => 0 < i) 10 1 () (by omega) (by omega)
      (fun n _ _ => pk_le 10 10 (fun _ => H) (fun z => absurd z (by omega)))
      (fun n i _ hi h0 hw => pk_le 10 i (fun z => absurd z (by omega)) (fun _ => ⟨pk_in i 10 hi, br_t (by rw [nI_clamp (by omega)]; exact j2 i h0 hi) (nm_r (nI_1 i) (hw () (Nat.succ_pos i)))⟩))
  obtain ⟨n, hn⟩ := L
  refine ⟨n + 1, pk_le 10 0 (fun z => absurd z (by omega)) (fun _ => ⟨pk_in 0 10 (by omega), br_f j1 ⟨pk_in 0 10 (by omega), ?_, pk_in 0 10 (by omega), nm_r ?_ (nm_r (nI_1 0) hn)⟩⟩)⟩
  · rw [show a2 (0 : Int32).toNatClampNeg = nI p from e2]
    exact nI_ne0 (by omega) (by omega)
  · rw [show a2 (0 : Int32).toNatClampNeg = nI p from e2, show a3 (0 : Int32).toNatClampNeg = nI c from e3, Int32.zero_add]
end
end
section
section
variable {post : Int32 → St0 → Prop} {mc ms kc ks : Nat} {x0 x1 x2 x3 f : Int32} {a1 a2 a3 a4 : Nat → Int32}
/-- no job: the tail of the law, period bad -/
theorem so_tB {x9 : Int32} (hp : post 1 ()) (E : so_E a1) (h9 : ¬ x9 = 0) (hb : so_P x0) : wL_lawOf_193 post mc ms x0 x1 x2 x3 1 x9 kc ks f a1 a2 a3 a4 := by
  unfold wL_lawOf_193 wL_lawOf_194
  refine so_offsetE E (br_t rfl (br_t rfl ?_))
  refine so_loadE E (br_f h9 (br_t rfl ?_))
  refine so_roomB hb (br_f (by decide) (br_t rfl ?_))
  exact so_removeE E (br_t rfl (br_t rfl hp))
/-- no job: the tail of the law, period good -/
theorem so_tG {x9 : Int32} (hp : post 1 ()) (E : so_E a1) (h9 : ¬ x9 = 0) (hb : ¬ so_P x0) : wL_lawOf_193 post mc ms x0 x1 x2 x3 0 x9 kc ks f a1 a2 a3 a4 := by
  obtain ⟨p, h2, h360, rfl⟩ := so_good hb
  unfold wL_lawOf_193 wL_lawOf_194
  refine so_offsetE E (br_t rfl (br_t rfl ?_))
  refine so_loadE E (br_f h9 (br_t rfl ?_))
  refine so_roomE hb h2 h360 E (br_t rfl (br_f h9 (br_t rfl ?_)))
  exact so_removeE E (br_t rfl (br_t rfl hp))
/-- one job: from the load on -/
theorem so_tJ {p c o : Nat} {x10 : Int32} (hb : ¬ so_P (nI p)) (J : so_J p c o a1 a2 a3 a4) (z : Int32)
    (H : wpX_remove (fun r u => match u with | (_, _, _, _, _) => (((x10 = 0 → (wL_lawOf_302 post mc ms (-6) r kc ks)) ∧ (¬ x10 = 0 → (wL_lawOf_302 post mc ms 0 r kc ks))))) (f, a1, a2, a3, a4) x3) :
    wL_lawOf_213 post mc ms (nI p) (nI c) x3 0 0 x10 z z kc ks f a1 a2 a3 a4 := by
  have J' := J
  obtain ⟨h2, h360, hc, hcp, _⟩ := J'
  refine br_t rfl (so_loadJ J (br_t rfl (br_t rfl ⟨nI_ne0 (by omega) (by omega), br_t rfl ?_⟩)))
  exact so_roomJ hb J (br_t rfl (br_t rfl (br_t (pk_sub hcp).symm H)))
theorem so_tJ0 {p c o : Nat} (hp : post 1 ()) (hb : ¬ so_P (nI p)) (J : so_J p c o a1 a2 a3 a4) (hf : f = 1) : wL_lawOf_194 post mc ms (nI p) (nI c) (nI o) 0 0 0 1 kc ks f a1 a2 a3 a4 := by
  have J' := J
  obtain ⟨h2, h360, hc, hcp, ho, j1, j2, e2, e3, e4⟩ := J'
  unfold wL_lawOf_194
  refine so_offsetJ j1 j2 (fun _ => br_f (by decide) ?_) (fun z => absurd rfl z)
  rw [e4]
  refine so_tJ hb J _ (so_removeJ j1 j2 (fun _ s => ?_) (fun z => absurd rfl z))
  subst hf
  exact br_f (by decide) (br_t (by decide) hp)
theorem so_tJ1 {p c o : Nat} (hp : post 1 ()) (hb : ¬ so_P (nI p)) (J : so_J p c o a1 a2 a3 a4) (h3 : ¬ x3 = 0) : wL_lawOf_193 post mc ms (nI p) (nI c) (nI o) x3 0 0 kc ks f a1 a2 a3 a4 := by
  have J' := J
  obtain ⟨h2, h360, hc, hcp, ho, j1, j2, e2, e3, e4⟩ := J'
  unfold wL_lawOf_193 wL_lawOf_194
  refine so_offsetJ j1 j2 (fun z => absurd z h3) (fun _ => br_t rfl ?_)
  exact so_tJ hb J _ (so_removeJ j1 j2 (fun z => absurd z h3) (fun _ => br_t rfl (br_t rfl hp)))
theorem so_b121 (hp : post 1 ()) (E : so_E a1) (hb : so_P x0) : wL_lawOf_121 post mc ms x0 x1 x2 x3 1 kc ks f a1 a2 a3 a4 := by
  refine br_f (by decide) ?_
  unfold wL_lawOf_165
  exact so_admitB hb (br_t rfl (br_f (by decide) (so_tB hp E (by decide) hb)))
theorem so_l165 (hp : post 1 ()) (E : so_E a1) (hb : ¬ so_P x0) (hl : x1 < 1 ∨ ¬ x1 ≤ x0) : wL_lawOf_165 post mc ms x0 x1 x2 x3 0 (-2) kc ks f a1 a2 a3 a4 := by
  unfold wL_lawOf_165
  exact so_admitL hb hl (br_t rfl (br_f (by decide) (so_tG hp E (by decide) hb)))
theorem so_o165 (hp : post 1 ()) (E : so_E a1) (hb : ¬ so_P x0) (h1 : ¬ x1 < 1) (h2 : x1 ≤ x0) (ho : x2 < 0 ∨ ¬ x2 < x0) : wL_lawOf_165 post mc ms x0 x1 x2 x3 0 (-3) kc ks f a1 a2 a3 a4 := by
  unfold wL_lawOf_165
  exact so_admitO hb h1 h2 ho (br_t rfl (br_f (by decide) (so_tG hp E (by decide) hb)))
theorem so_k165 (hp : post 1 ()) (E : so_E a1) (hf : f = 0) (hb : ¬ so_P x0) (h1 : ¬ x1 < 1) (h2 : x1 ≤ x0) (h3 : ¬ x2 < 0) (h4 : x2 < x0) : wL_lawOf_165 post mc ms x0 x1 x2 x3 0 0 kc ks f a1 a2 a3 a4 := by
  obtain ⟨p, hp2, hp360, rfl⟩ := so_good hb
  have hx1 : ¬ x1 < 0 := fun z => h1 (Int32.lt_of_lt_of_le z (by decide))
  obtain ⟨c, hcp, rfl⟩ := nI_of2 (nI_toInt (show p < 2 ^ 31 by omega)) hx1 h2
  obtain ⟨o, hop, rfl⟩ := nI_of2 (nI_toInt (show p < 2 ^ 31 by omega)) h3 (Int32.le_of_lt h4)
  have hc1 : 1 ≤ c := by
    rcases Nat.lt_or_ge c 1 with z | z
    · exact absurd (nI_lt (b := 1) z (by decide)) h1
    · exact z
  have ho : o < p := (nI_ltI (by omega) (by omega)).mp h4
  have J : so_J p c o (upd a1 0 1) (upd a2 0 (nI p)) (upd a3 0 (nI c)) (upd a4 0 (nI o)) :=
    ⟨hp2, hp360, hc1, hcp, ho, by rw [pk_us]; decide, fun j z hj => by rw [pk_un (by omega)]; exact E j hj, pk_us, pk_us, pk_us⟩
  unfold wL_lawOf_165
  subst hf
  refine so_admitOk hb hp2 hp360 h1 h2 h3 h4 (by decide) E (br_t rfl (br_t rfl (br_c (fun z => ?_) (fun z => ?_))))
  · subst z
    exact so_tJ0 hp hb J (by decide)
  · exact so_tJ1 hp hb J z
theorem so_g121 (hp : post 1 ()) (E : so_E a1) (hf : f = 0) (hb : ¬ so_P x0) : wL_lawOf_121 post mc ms x0 x1 x2 x3 0 kc ks f a1 a2 a3 a4 :=
  br_t rfl (br_c (fun h => so_l165 hp E hb (Or.inl h)) (fun h1 => br_c (fun h2 => br_c (fun h => so_o165 hp E hb h1 h2 (Or.inl h)) (fun h3 => br_c (fun h4 => so_k165 hp E hf hb h1 h2 h3 h4) (fun h => so_o165 hp E hb h1 h2 (Or.inr h)))) (fun h => so_l165 hp E hb (Or.inr h))))
theorem so_77 (hp : post 1 ()) (E : so_E a1) (hf : f = 0) (z : Int32) : wL_lawOf_77 post mc ms x0 x1 x2 x3 z z kc ks f a1 a2 a3 a4 := by
  refine br_t rfl (br_c (fun h => ?_) (fun h => br_c (fun g => ?_) (fun g => ?_)))
  · exact br_f (by decide) (so_b121 hp E (Or.inl h))
  · refine br_t rfl ⟨so_ne0 h, br_c (fun e => ?_) (fun e => ?_)⟩
    · exact so_g121 hp E hf (fun t => Or.elim t h (fun t => Or.elim t (fun q => absurd g (Int32.not_le.mpr q)) (fun q => q e)))
    · exact so_b121 hp E (Or.inr (Or.inr e))
  · exact br_f (by decide) (so_b121 hp E (Or.inr (Or.inl (Int32.not_le.mp g))))
theorem so_38 {x4 x5 : Int32} (hp : post 1 ()) (E : so_E a1) (hf : f = 0) (h : ¬ (so_T x4 ∨ so_T x5)) : wL_lawOf_38 post mc ms x0 x1 x2 x3 x4 x5 0 kc ks f a1 a2 a3 a4 := by
  unfold wL_lawOf_38
  exact so_freeE E (fun z => absurd z h) (fun _ z => br_t rfl (br_t z (so_77 hp E hf _))) (fun _ z => br_t rfl (br_f z (so_77 hp E hf _)))
theorem so_33 {x4 x5 : Int32} (hp : post 1 ()) (E : so_E a1) (hf : f = 0) (h : so_T x4 ∨ so_T x5) : wL_lawOf_33 post mc ms x0 x1 x2 x3 x4 x5 kc ks f a1 a2 a3 a4 := by
  unfold wL_lawOf_33 wL_lawOf_38
  exact so_freeE E (fun _ => br_f (by decide) (so_77 hp E hf _)) (fun z => absurd h z) (fun z => absurd h z)
end
theorem so_law {post : Int32 → St0 → Prop} {u : St0} {p0 p1 p2 p3 p4 p5 : Int32} (hp : post 1 ()) : wpL_lawOf post 5 45 u p0 p1 p2 p3 p4 p5 := by
  have E : so_E (fun _ => 0) := fun _ _ => rfl
  refine ⟨by omega, by omega, 4, 40, by omega, by omega, by omega, by omega, by omega, by omega, by omega, by omega, by omega, by omega, ?_⟩
  refine br_c (fun h => so_33 hp E rfl (Or.inl (Or.inl h))) (fun h1 => br_c (fun h => so_33 hp E rfl (Or.inl (Or.inr h))) (fun h2 => br_c (fun h => so_33 hp E rfl (Or.inr (Or.inl h))) (fun h3 => br_c (fun h4 => so_38 hp E rfl (fun t => ?_)) (fun h => so_33 hp E rfl (Or.inr (Or.inr (Int32.not_le.mp h)))))))
  rcases t with (t | t) | (t | t)
  · exact h1 t
  · exact h2 t
  · exact h3 t
  · exact absurd h4 (Int32.not_le.mpr t)
theorem i_vc (xs : Nat → Int32) (L : Nat) (hL : L ≤ 6) : wpL_law (fun r => r = 1) L xs := by
  unfold wpL_law
  exact so_cell 0 hL (by omega) (fun r1 => so_cell 1 hL (by omega) (fun r2 => so_cell 2 hL (by omega) (fun r3 => so_cell 3 hL (by omega) (fun r4 => so_cell 4 hL (by omega) (fun r5 => so_cell 5 hL (by omega) (fun r6 => ⟨5, 45, by omega, by omega, so_law rfl⟩))))))
end
