section
/-! plain facts of ints: bits of 0, a node's number, a mask, a place in a node, a byte -/
theorem rt_bit0 (x : Int32) : ((0 : Int32) >>> x) &&& 1 = 0 := by rw [Int32.zero_shiftRight, Int32.zero_and]
theorem rt_one0 (x : Int32) : (0 : Int32) + (((0 : Int32) >>> x) &&& 1) = 0 := by rw [rt_bit0, Int32.add_zero]
theorem rt_and0 (x y : Int32) : ((0 : Int32) &&& x) &&& y = 0 := by rw [Int32.zero_and, Int32.zero_and]
theorem rt_node {a : Nat} (h : a < 256) : nI a >>> ((4 : Int32) &&& 31) = nI (a / 16) := pk_shrN (by omega) _ 4 (by decide)
theorem rt_nodeIn {a : Nat} (h : a < 256) : vp_in (nI a >>> ((4 : Int32) &&& 31)) 16 := pk_in (a / 16) 16 (by omega) (rt_node h)
theorem rt_mask : ∀ b, b < 9 → (255 : Int32) >>> (nI b &&& 31) = ((1 : Int32) <<< ((8 - nI b) &&& 31)) - 1 := by decide +kernel
/-- the place, in its node, of the beginning of b bits of the address a -/
def rt_pl (a b : Nat) : Nat := if b < 4 then 2 ^ b - 1 + a / 2 ^ (8 - b) else 2 ^ (b - 4) - 1 + a % 16 / 2 ^ (8 - b)
theorem rt_pT : ∀ b, b < 4 → ∀ a, a < 256 → (((1 : Int32) <<< (nI b &&& 31)) - 1) + (nI a >>> ((8 - nI b) &&& 31)) = nI (rt_pl a b) ∧ rt_pl a b < 15 := by decide +kernel
theorem rt_pL : ∀ b, b < 9 → 4 ≤ b → ∀ a, a < 256 → (((1 : Int32) <<< ((nI b - 4) &&& 31)) - 1) + ((nI a &&& 15) >>> ((4 - (nI b - 4)) &&& 31)) = nI (rt_pl a b) ∧ rt_pl a b < 31 := by decide +kernel
theorem rt_bit1 : ∀ t, t < 31 → ¬ (((0 : Int32) ||| ((1 : Int32) <<< (nI t &&& 31))) >>> (nI t &&& 31)) &&& 1 = 0 := by decide +kernel
theorem rt_byte : ∀ g, g < 100 → (nI g).toInt8.toInt32 = nI g := by decide +kernel
theorem rt_up {f : Nat → Int32} {x y i : Int32} {k : Nat} (hk : i.toNatClampNeg = k) (hx : x = y) : upd f i.toNatClampNeg x = upd f k y := by rw [hk, hx]
theorem rt_goalAt (n t : Nat) : nI n * 31 + nI t = nI (n * 31 + t) := by rw [show (31 : Int32) = nI 31 from rfl, pk_mul, nI_add]
end
section
/-! the checks of arguments -/
/-- a beginning: an address, 0 to 8 bits, no bit of the address behind them -/
def rt_beg (p0 p1 : Int32) : Prop := ∃ a b : Nat, a < 256 ∧ b < 9 ∧ p0 = nI a ∧ p1 = nI b ∧ p0 &&& ((255 : Int32) >>> (p1 &&& 31)) = 0
theorem rt_isA {post : Int32 → Prop} {p0 : Int32} (h1 : ∀ a : Nat, a < 256 → p0 = nI a → post 1) (h0 : (¬ ∃ a : Nat, a < 256 ∧ p0 = nI a) → post 0) : wpX_isAddress post () p0 := by
  unfold wpX_isAddress
  refine br_c (fun z => h0 ?_) (fun z => ?_)
  · rintro ⟨a, ha, rfl⟩
    exact absurd z (nI_pos (by omega))
  · obtain ⟨a, ha, rfl⟩ := nI_of z
    refine pk_le 256 a (fun z2 => h0 ?_) (fun z2 => h1 a z2 rfl)
    rintro ⟨c, hc, e⟩
    have := (nI_eq (by omega) (by omega)).mp e
    omega
theorem rt_isB {post : Int32 → Prop} {p0 p1 : Int32} (h1 : rt_beg p0 p1 → post 1) (h0 : ¬ rt_beg p0 p1 → post 0) : wpX_isBeginning post () p0 p1 := by
  unfold wpX_isBeginning
  refine br_c (fun z => h0 ?_) (fun z => ?_)
  · rintro ⟨a, b, ha, hb, _, rfl, _⟩
    exact absurd z (nI_pos (by omega))
  obtain ⟨b, hb, rfl⟩ := nI_of z
  refine pk_lt 8 b (fun z2 => h0 ?_) (fun z2 => rt_isA (fun a ha e => br_f (by decide) ?_) (fun hn => br_t rfl (h0 ?_)))
  · rintro ⟨a, c, ha, hc, _, e, _⟩
    have := (nI_eq (by omega) (by omega)).mp e
    omega
  · exact br_c (fun m => h1 ⟨a, b, ha, by omega, e, rfl, m⟩) (fun m => h0 (fun ⟨_, _, _, _, _, _, m'⟩ => m m'))
  · rintro ⟨a, c, ha, hc, e, _, _⟩
    exact hn ⟨a, ha, e⟩
theorem rt_place {post : Int32 → Prop} {a b : Nat} (ha : a < 256) (hb : b < 9) (h : post (nI (rt_pl a b))) : wpX_place post () (nI a) (nI b) := by
  unfold wpX_place
  exact pk_le 4 b (fun z => nm_e (ek_v (P := post) (rt_pL b hb z a ha).1 h)) (fun z => ek_v (P := post) (rt_pT b z a ha).1 h)
/-! the empty table: each method's answer -/
theorem rt_has0 {post : Int32 → Prop} {a b : Nat} (ha : a < 256) (hb : b < 9) (h : post 0) : wpX_has post (0, 0, (fun _ => 0), (fun _ => 0), (fun _ => 0)) (nI a) (nI b) := by
  unfold wpX_has
  exact rt_place ha hb (br_c (fun _ => ⟨rt_nodeIn ha, br_t (rt_bit0 _) h⟩) (fun _ => br_t (rt_bit0 _) h))
theorem rt_drop {post : Int32 → St2 → Prop} {p0 p1 : Int32} (h : post 0 (0, 0, (fun _ => 0), (fun _ => 0), (fun _ => 0))) : wpX_drop post (0, 0, (fun _ => 0), (fun _ => 0), (fun _ => 0)) p0 p1 := by
  unfold wpX_drop
  refine rt_isB (fun hB => br_f (by decide) ?_) (fun _ => br_t rfl h)
  obtain ⟨a, b, ha, hb, rfl, rfl, _⟩ := hB
  exact rt_has0 ha hb (br_t rfl h)
theorem rt_ones0 {post : Int32 → Prop} (h : post 0) : wpX_ones post () 0 :=
  pk_loop (σ := Unit) (fun n i _ => wX_ones_4 post 0 n 0 (nI i)) (fun _ _ => True) 31 0 () (by omega) trivial
    (fun n _ _ => pk_le 31 31 (fun _ => h) (fun z => absurd z (by omega)))
    (fun n i _ hi _ hw => pk_le 31 i (fun z => absurd z (by omega)) (fun _ => nm_r (rt_one0 _) (nm_r (nI_1 i) (hw () trivial))))
theorem rt_match0 {post : Int32 → Prop} {p0 : Int32} (h : post 0) : wpX_matching post (0, 0, (fun _ => 0), (fun _ => 0), (fun _ => 0)) p0 := by
  unfold wpX_matching
  refine rt_isA (fun a ha e => br_f (by decide) ?_) (fun _ => br_t rfl h)
  subst e
  exact nm_r Int32.zero_and ⟨rt_nodeIn ha, nm_e (nm_r Int32.zero_and (rt_ones0 (rt_ones0 (ek_v (P := post) (Int32.add_zero 0) h))))⟩
theorem rt_below0 {post : Int32 → Prop} {a : Nat} (ha : a < 256) (h : post (-1)) : wpX_bitsBelow post (0, 0, (fun _ => 0), (fun _ => 0), (fun _ => 0)) (nI a) 9 := by
  unfold wpX_bitsBelow
  exact br_f (by decide) ⟨rt_nodeIn ha, nm_e (br_t (rt_and0 _ _) (nm_r Int32.zero_and (br_t (by decide) (nm_r Int32.zero_and (br_t rfl h)))))⟩
theorem rt_gb0 {post : Int32 → Prop} {a : Nat} (ha : a < 256) (h : post (-1)) : wpX_goalBelow post (0, 0, (fun _ => 0), (fun _ => 0), (fun _ => 0)) (nI a) 9 := by
  unfold wpX_goalBelow
  exact rt_below0 ha (br_f (by decide) h)
theorem rt_sent0 {post : Int32 → Prop} {g : Int32} (h1 : g = -1 → post 256) (h0 : ¬ g = -1 → post 0) : wpX_sent post (0, 0, (fun _ => 0), (fun _ => 0), (fun _ => 0)) g := by
  unfold wpX_sent
  by_cases e : g = -1
  · exact pk_loop (σ := Unit) (fun n i _ => wX_sent_4 post g 0 0 (fun _ => 0) (fun _ => 0) (fun _ => 0) n (nI i) (nI i)) (fun _ _ => True) 256 0 () (by omega) trivial
      (fun n _ _ => pk_le 256 256 (fun _ => h1 e) (fun z => absurd z (by omega)))
      (fun n i _ hi _ hw => pk_le 256 i (fun z => absurd z (by omega)) (fun _ => rt_gb0 hi (br_t e.symm (nm_r (nI_1 i) (nm_r (nI_1 i) (hw () trivial))))))
  · exact pk_loop (σ := Unit) (fun n i _ => wX_sent_4 post g 0 0 (fun _ => 0) (fun _ => 0) (fun _ => 0) n 0 (nI i)) (fun _ _ => True) 256 0 () (by omega) trivial
      (fun n _ _ => pk_le 256 256 (fun _ => h0 e) (fun z => absurd z (by omega)))
      (fun n i _ hi _ hw => pk_le 256 i (fun z => absurd z (by omega)) (fun _ => rt_gb0 hi (br_f (fun z => e z.symm) (nm_r (Int32.add_zero 0) (nm_r (nI_1 i) (hw () trivial))))))
theorem rt_exact0 {post : Int32 → Prop} {p0 p1 : Int32} (h : post (-1)) : wpX_exact post (0, 0, (fun _ => 0), (fun _ => 0), (fun _ => 0)) p0 p1 := by
  unfold wpX_exact
  refine rt_isB (fun hB => br_f (by decide) ?_) (fun _ => br_t rfl h)
  obtain ⟨a, b, ha, hb, rfl, rfl, _⟩ := hB
  exact rt_has0 ha hb (br_t rfl h)
end
section
/-! put: refused, or one route is kept; what is then read -/
theorem rt_put0 {post : Int32 → St2 → Prop} {p0 p1 p2 : Int32} (hn : ¬ (rt_beg p0 p1 ∧ ∃ g : Nat, g < 100 ∧ p2 = nI g)) (h : post 0 (0, 0, (fun _ => 0), (fun _ => 0), (fun _ => 0))) : wpX_put post (0, 0, (fun _ => 0), (fun _ => 0), (fun _ => 0)) p0 p1 p2 := by
  unfold wpX_put
  refine rt_isB (fun hB => br_f (by decide) (br_c (fun _ => h) (fun z => ?_))) (fun _ => br_t rfl h)
  obtain ⟨g, hg, rfl⟩ := nI_of z
  exact pk_le g 99 (fun z2 => absurd ⟨hB, g, by omega, rfl⟩ hn) (fun _ => h)
theorem rt_put1 {post : Int32 → St2 → Prop} {a b g : Nat} (ha : a < 256) (hb : b < 9) (hg : g < 100) (hm : nI a &&& ((255 : Int32) >>> (nI b &&& 31)) = 0)
    (hT : b < 4 → post 1 ((0 : Int32) ||| ((1 : Int32) <<< (nI (rt_pl a b) &&& 31)), 1, upd (fun _ => 0) (rt_pl a b) (nI g), (fun _ => 0), (fun _ => 0)))
    (hL : 4 ≤ b → post 1 (0, 1, (fun _ => 0), upd (fun _ => 0) (a / 16) ((0 : Int32) ||| ((1 : Int32) <<< (nI (rt_pl a b) &&& 31))), upd (fun _ => 0) (a / 16 * 31 + rt_pl a b) (nI g))) :
    wpX_put post (0, 0, (fun _ => 0), (fun _ => 0), (fun _ => 0)) (nI a) (nI b) (nI g) := by
  unfold wpX_put
  refine rt_isB (fun _ => br_f (by decide) (br_f (nI_pos (by omega)) (br_t (nI_le (b := 99) (by omega) (by omega)) (rt_has0 ha hb (br_t rfl ?_))))) (fun z => absurd ⟨a, b, ha, hb, rfl, rfl, hm⟩ z)
  unfold wX_put_39
  refine nm_r (e' := 1) rfl (rt_place ha hb (pk_le 4 b (fun z => ?_) (fun z => ?_)))
  · have hp := (rt_pL b hb z a ha).2
    have hq : a / 16 < 16 := by omega
    exact nm_r (rt_node ha) ⟨pk_in (a / 16) 16 hq, pk_in (a / 16) 16 hq, nm_r (rt_up (nI_clamp (by omega)) rfl)
      ⟨pk_in (a / 16 * 31 + rt_pl a b) 496 (by omega) (rt_goalAt _ _), nm_r (rt_up (pk_cl (a / 16 * 31 + rt_pl a b) (rt_goalAt _ _) (by omega)) (rt_byte g hg)) (hL z)⟩⟩
  · have hp := (rt_pT b z a ha).2
    exact nm_e ⟨pk_in (rt_pl a b) 15 hp, nm_r (rt_up (nI_clamp (by omega)) (rt_byte g hg)) (hT z)⟩
theorem rt_hasT {post : Int32 → Prop} {a b : Nat} {c : Int32} {a1 a2 a3 : Nat → Int32} (ha : a < 256) (hb : b < 4) (h : post 1) : wpX_has post ((0 : Int32) ||| ((1 : Int32) <<< (nI (rt_pl a b) &&& 31)), c, a1, a2, a3) (nI a) (nI b) := by
  unfold wpX_has
  have hp := (rt_pT b hb a ha).2
  exact rt_place ha (by omega) (br_f (nI_ge (b := 4) hb (by omega)) (br_f (rt_bit1 _ (by omega)) h))
theorem rt_hasL {post : Int32 → Prop} {a b : Nat} {t c : Int32} {a1 a3 f : Nat → Int32} (ha : a < 256) (hb : b < 9) (h4 : 4 ≤ b) (h : post 1) : wpX_has post (t, c, a1, upd f (a / 16) ((0 : Int32) ||| ((1 : Int32) <<< (nI (rt_pl a b) &&& 31))), a3) (nI a) (nI b) := by
  unfold wpX_has
  have hp := (rt_pL b hb h4 a ha).2
  refine rt_place ha hb (br_t (nI_le (a := 4) h4 (by omega)) ⟨rt_nodeIn ha, ?_⟩)
  rw [pk_cl (a / 16) (rt_node ha) (by omega), pk_us]
  exact br_f (rt_bit1 _ (by omega)) h
theorem rt_goalT {post : Int32 → Prop} {a b : Nat} {t c v : Int32} {f a2 a3 : Nat → Int32} (ha : a < 256) (hb : b < 4) (h : post v) : wpX_goalOf post (t, c, upd f (rt_pl a b) v, a2, a3) (nI a) (nI b) := by
  unfold wpX_goalOf
  have hp := (rt_pT b hb a ha).2
  refine rt_place ha (by omega) (br_f (nI_ge (b := 4) hb (by omega)) ⟨pk_in _ 15 hp, ?_⟩)
  rw [nI_clamp (by omega), pk_us]
  exact h
theorem rt_goalL {post : Int32 → Prop} {a b : Nat} {t c v : Int32} {f a1 a2 : Nat → Int32} (ha : a < 256) (hb : b < 9) (h4 : 4 ≤ b) (h : post v) : wpX_goalOf post (t, c, a1, a2, upd f (a / 16 * 31 + rt_pl a b) v) (nI a) (nI b) := by
  unfold wpX_goalOf
  have hp := (rt_pL b hb h4 a ha).2
  have e : (nI a >>> ((4 : Int32) &&& 31)) * 31 + nI (rt_pl a b) = nI (a / 16 * 31 + rt_pl a b) := by rw [rt_node ha, rt_goalAt]
  refine rt_place ha hb (br_t (nI_le (a := 4) h4 (by omega)) ⟨pk_in _ 496 (by omega) e, ?_⟩)
  rw [pk_cl _ e (by omega), pk_us]
  exact h
theorem rt_exT {post : Int32 → Prop} {a b g : Nat} {c : Int32} {f a2 a3 : Nat → Int32} (ha : a < 256) (hb : b < 4) (hm : nI a &&& ((255 : Int32) >>> (nI b &&& 31)) = 0) (h : post (nI g)) : wpX_exact post ((0 : Int32) ||| ((1 : Int32) <<< (nI (rt_pl a b) &&& 31)), c, upd f (rt_pl a b) (nI g), a2, a3) (nI a) (nI b) := by
  unfold wpX_exact
  exact rt_isB (fun _ => br_f (by decide) (rt_hasT ha hb (br_f (by decide) (rt_goalT ha hb h)))) (fun z => absurd ⟨a, b, ha, by omega, rfl, rfl, hm⟩ z)
theorem rt_exL {post : Int32 → Prop} {a b g : Nat} {t c : Int32} {a1 f f' : Nat → Int32} (ha : a < 256) (hb : b < 9) (h4 : 4 ≤ b) (hm : nI a &&& ((255 : Int32) >>> (nI b &&& 31)) = 0) (h : post (nI g)) : wpX_exact post (t, c, a1, upd f (a / 16) ((0 : Int32) ||| ((1 : Int32) <<< (nI (rt_pl a b) &&& 31))), upd f' (a / 16 * 31 + rt_pl a b) (nI g)) (nI a) (nI b) := by
  unfold wpX_exact
  exact rt_isB (fun _ => br_f (by decide) (rt_hasL ha hb h4 (br_f (by decide) (rt_goalL ha hb h4 h)))) (fun z => absurd ⟨a, b, ha, hb, rfl, rfl, hm⟩ z)
end
section
/-! the law -/
theorem rt_79 {post : Int32 → St0 → Prop} {mc ms : Nat} {x0 x1 x2 x3 x4 x7 : Int32} {kc ks : Nat}
    (h0 : x7 = 0 → wL_lawOf_139 post mc ms x0 x1 x2 x7 (-1) kc ks 0 0 (fun _ => 0) (fun _ => 0) (fun _ => 0))
    (h1 : ¬ x7 = 0 → wL_lawOf_139 post mc ms x0 x1 x2 x7 x2 kc ks 0 0 (fun _ => 0) (fun _ => 0) (fun _ => 0)) :
    wL_lawOf_79 post mc ms x0 x1 x2 x3 x4 x7 kc ks 0 0 (fun _ => 0) (fun _ => 0) (fun _ => 0) := by
  have key : ∀ z : Int32, (x4 = -1 → (256 : Int32) = z) → (¬ x4 = -1 → (0 : Int32) = z) → wL_lawOf_94 post mc ms x0 x1 x2 x3 x4 x7 z kc ks 0 0 (fun _ => 0) (fun _ => 0) (fun _ => 0) := by
    intro z e1 e0
    unfold wL_lawOf_94
    exact rt_drop (br_t rfl (rt_match0 (br_t rfl (rt_sent0 (fun e => br_t (e1 e) (br_c h0 h1)) (fun e => br_t (e0 e) (br_c h0 h1))))))
  unfold wL_lawOf_79
  exact br_c (fun e => key _ (fun _ => rfl) (fun n => absurd e n)) (fun e => key _ (fun n => absurd n e) (fun _ => rfl))
/-- no route is put -/
theorem rt_bad {post : Int32 → St0 → Prop} {mc ms : Nat} {x0 x1 x2 x3 x4 : Int32} {kc ks : Nat} (hp : post 1 ()) (hn : ¬ (rt_beg x0 x1 ∧ ∃ g : Nat, g < 100 ∧ x2 = nI g)) :
    wL_lawOf_79 post mc ms x0 x1 x2 x3 x4 0 kc ks 0 0 (fun _ => 0) (fun _ => 0) (fun _ => 0) := by
  refine rt_79 (fun _ => ?_) (fun z => absurd rfl z)
  unfold wL_lawOf_139
  exact rt_put0 hn (br_t rfl (rt_exact0 (br_t rfl (br_t rfl (br_t rfl hp)))))
/-- one route is put -/
theorem rt_good {post : Int32 → St0 → Prop} {mc ms : Nat} {a b g : Nat} {x3 x4 : Int32} {kc ks : Nat} (hp : post 1 ()) (ha : a < 256) (hb : b < 9) (hg : g < 100) (hm : nI a &&& ((255 : Int32) >>> (nI b &&& 31)) = 0) :
    wL_lawOf_79 post mc ms (nI a) (nI b) (nI g) x3 x4 1 kc ks 0 0 (fun _ => 0) (fun _ => 0) (fun _ => 0) := by
  refine rt_79 (fun z => absurd z (by decide)) (fun _ => ?_)
  unfold wL_lawOf_139
  exact rt_put1 ha hb hg hm (fun z => br_t rfl (rt_exT ha z hm (br_t rfl (br_f (by decide) (br_t rfl hp))))) (fun z => br_t rfl (rt_exL ha hb z hm (br_t rfl (br_f (by decide) (br_t rfl hp)))))
theorem rt_law {post : Int32 → St0 → Prop} (hp : post 1 ()) (p0 p1 p2 p3 p4 : Int32) : wpL_lawOf post 82 1312 () p0 p1 p2 p3 p4 := by
  unfold wpL_lawOf
  refine ⟨by omega, by omega, 3, 527, by omega, by omega, ?_⟩
  unfold wpX_init
  refine ⟨by omega, by omega, by omega, by omega, by omega, by omega, ?_⟩
  refine br_c (fun z => br_t rfl (rt_bad hp ?_)) (fun z => ?_)
  · rintro ⟨⟨a, b, ha, hb, _, rfl, _⟩, _⟩
    exact absurd z (nI_pos (by omega))
  obtain ⟨b, hb, rfl⟩ := nI_of z
  refine pk_lt 8 b (fun z2 => br_t rfl (rt_bad hp ?_)) (fun hb9 => ?_)
  · rintro ⟨⟨a, c, ha, hc, _, e, _⟩, _⟩
    have := (nI_eq (by omega) (by omega)).mp e
    omega
  refine br_c (fun z => br_t rfl (rt_bad hp ?_)) (fun z => ?_)
  · rintro ⟨⟨a, c, ha, hc, rfl, _, _⟩, _⟩
    exact absurd z (nI_pos (by omega))
  obtain ⟨a, ha, rfl⟩ := nI_of z
  refine pk_lt 255 a (fun z2 => br_t rfl (rt_bad hp ?_)) (fun ha9 => br_f (by decide) (br_f (by decide) ?_))
  · rintro ⟨⟨d, c, hd, hc, e, _, _⟩, _⟩
    have := (nI_eq (by omega) (by omega)).mp e
    omega
  have hk := rt_mask b (by omega)
  refine br_c (fun m => ?_) (fun m => rt_bad hp ?_)
  · have hm : nI a &&& ((255 : Int32) >>> (nI b &&& 31)) = 0 := by rw [hk]; exact m
    refine br_c (fun z => rt_bad hp ?_) (fun z => ?_)
    · rintro ⟨_, g, hg, rfl⟩
      exact absurd z (nI_pos (by omega))
    obtain ⟨g, hg, rfl⟩ := nI_of z
    refine pk_lt 99 g (fun z2 => rt_bad hp ?_) (fun z2 => rt_good hp (by omega) (by omega) (by omega) hm)
    rintro ⟨_, c, hc, e⟩
    have := (nI_eq (by omega) (by omega)).mp e
    omega
  · rintro ⟨⟨d, c, hd, hc, _, _, e⟩, _⟩
    rw [hk] at e
    exact m e
theorem rt_cell {post : Int32 → Prop} {L : Nat} {xs : Nat → Int32} (k : Nat) (hk : k < 5) (hL : L ≤ 5) (h : ∀ v, post v) : wpL_cellAt post L xs () (nI k) := by
  unfold wpL_cellAt
  exact pk_le L k (fun _ => h _) (fun z => ⟨pk_in k L z, h _⟩)
theorem i_vc (xs : Nat → Int32) (L : Nat) (hL : L ≤ 5) : wpL_law (fun r => r = 1) L xs := by
  unfold wpL_law
  exact rt_cell 0 (by omega) hL (fun r1 => rt_cell 1 (by omega) hL (fun r2 => rt_cell 2 (by omega) hL (fun r3 => rt_cell 3 (by omega) hL (fun r4 => rt_cell 4 (by omega) hL (fun r5 =>
    ⟨82, 1312, by omega, by omega, rt_law rfl r1 r2 r3 r4 r5⟩)))))
end
