section
/-! The ring: what one call of each method does, against the picture 'i values of v came in, at most c of them are kept' -/
/-- floorMod as a function -/
def rv_fm (p q : Int32) : Int32 := if 0 ≤ (p ^^^ q) then p - p / q * q else if p - p / q * q = 0 then p - p / q * q else p - p / q * q + q
theorem rv_fmv : ∀ c, c < 8 → ∀ x, x < c + 1 → ∀ a, a < c + 1 → rv_fm ((nI x - 1) - nI a) (nI (c + 1)) = nI ((x + (c + 1) - 1 - a) % (c + 1)) := by decide +kernel
theorem rv_ix : ∀ c, c < 8 → ∀ v, v < 9 → ∀ a, a < c + 1 → a < v → (v % (c + 1) + (c + 1) - 1 - a) % (c + 1) = (v - 1 - a) % (c + 1) := by decide +kernel
theorem rv_floor {post : Int32 → Prop} {p q : Int32} (h0 : ¬ q = 0) (hp : post (rv_fm p q)) : wpJ9_floorMod_7cf53_48e5c post () p q := by
  unfold rv_fm at hp
  refine ⟨h0, nm_e (br_c (fun h => ?_) (fun h => br_c (fun g => ?_) (fun g => ?_)))⟩
  · rw [if_pos h] at hp
    exact hp
  · rw [if_neg h, if_pos g] at hp
    exact hp
  · rw [if_neg h, if_neg g] at hp
    exact hp
/-- the ring of c places after i values: every value of age below c stands at its place -/
def rv_R (c : Nat) (v : Nat → Int32) (i : Nat) (d : Nat → Int32) : Prop := ∀ k, k < i → i ≤ k + c → d (k % c) = v k
theorem rv_mne {k i c : Nat} (h : k < i) (h2 : i < k + c) : k % c ≠ i % c := by
  intro e
  have t : (i - k) % c = 0 := Nat.sub_mod_eq_zero_of_mod_eq e.symm
  rw [Nat.mod_eq_of_lt (by omega)] at t
  omega
theorem rv_R0 {c : Nat} {v d : Nat → Int32} : rv_R c v 0 d := fun k h => absurd h (by omega)
theorem rv_R1 {c i : Nat} {v d : Nat → Int32} (h : rv_R c v i d) : rv_R c v (i + 1) (upd d (i % c) (v i)) := by
  intro k hk hc
  by_cases e : k = i
  · rw [e, pk_us]
  · rw [pk_un (rv_mne (by omega) (by omega))]
    exact h k (by omega) (by omega)
theorem rv_get {post : Int32 → Prop} {d : Nat → Int32} {x z c a : Nat} (hc : 0 < c) (hc8 : c ≤ 8) (hx : x < c) (hz : z ≤ 8) (ha : a < z) (hac : a < c) (hp : post (d ((x + c - 1 - a) % c))) : wpX0_get post (nI x, nI z, d, c) (nI a) := by
  refine br_f (nI_pos (by omega)) (br_t (nI_lt ha (by omega)) (rv_floor (nI_ne0 hc (by omega)) ?_))
  have e : rv_fm ((nI x - 1) - nI a) (nI c) = nI ((x + c - 1 - a) % c) := by
    have t := rv_fmv (c - 1) (by omega) x (by omega) a (by omega)
    rw [show c - 1 + 1 = c by omega] at t
    exact t
  have hm : (x + c - 1 - a) % c < c := Nat.mod_lt _ hc
  show vp_in (rv_fm ((nI x - 1) - nI a) (nI c)) c ∧ post (d (rv_fm ((nI x - 1) - nI a) (nI c)).toNatClampNeg)
  rw [e, nI_clamp (by omega)]
  exact ⟨vp_in_nI hm (by omega), hp⟩
theorem rv_add {post : St3 → Prop} {d : Nat → Int32} {c i : Nat} {w : Int32} (hc : 0 < c) (hc8 : c ≤ 8) (hi : i < 8) (hp : post (nI ((i + 1) % c), nI (min (i + 1) c), upd d (i % c) w, c)) : wpX0_add post (nI (i % c), nI (min i c), d, c) w := by
  have hm : i % c < c := Nat.mod_lt _ hc
  refine ⟨vp_in_nI hm (by omega), nm_r (by rw [nI_clamp (by omega)]) ⟨nI_ne0 hc (by omega), nm_r (e' := nI ((i + 1) % c)) ?_ (pk_le c (min i c) (fun z => ?_) (fun z => nm_r (e' := nI (min (i + 1) c)) ?_ hp))⟩⟩
  · show (nI (i % c) + 1) - (nI (i % c) + 1) / nI c * nI c = nI ((i + 1) % c)
    rw [nI_1, pk_rem (by omega) hc (by omega), Nat.mod_add_mod]
  · rw [show min (i + 1) c = min i c by omega] at hp
    exact hp
  · rw [nI_1, show min i c + 1 = min (i + 1) c by omega]
/-- the component's lastValue: the value that has a others behind it -/
theorem rv_x2 {post : Int32 → St1 → Prop} {f : Nat → Int32} {v c a : Nat} (hc : 0 < c) (hc8 : c ≤ 8) (hv : v ≤ 8) (hav : a < v) (hac : a < c) (hp : post (f (v - 1 - a)) (f, v)) : wpX2_lastValue post 2 11 (f, v) (nI c) (nI a) := by
  refine ⟨by omega, by omega, 1, 8, by omega, by omega, nI_pos (by omega), nm_r (nI_clamp (by omega)) ⟨by omega, by omega, by omega, nm_r (e' := nI v) rfl ?_⟩⟩
  have L := pk_loop (fun n i s => wX2_lastValue_20 post 2 11 (nI a) (nI v) (1 + 1) (3 + 8) n (nI i) f v (nI (i % c)) (nI (min i c)) s c) (fun i s => rv_R c f i s) v 0 (fun _ => 0) (by omega) rv_R0
    (fun n s h => pk_le v v (fun _ => rv_get hc hc8 (Nat.mod_lt _ hc) (by omega) (by omega) hac (by
        have e : (v % c + c - 1 - a) % c = (v - 1 - a) % c := by
          have t := rv_ix (c - 1) (by omega) v (by omega) a (by omega) hav
          rw [show c - 1 + 1 = c by omega] at t
          exact t
        rw [e, h (v - 1 - a) (by omega) (by omega)]
        exact hp)) (fun z => absurd z (by omega)))
    (fun n i s hi h hw => pk_le v i (fun z => absurd z (by omega)) (fun _ => ⟨pk_in i v hi, nm_r (e' := f i) (by rw [nI_clamp (by omega)]) (rv_add hc hc8 (by omega) (nm_r (nI_1 i) (hw _ (rv_R1 h))))⟩))
  obtain ⟨n, hn⟩ := L
  have hn' : wX2_lastValue_20 post 2 11 (nI a) (nI v) (1 + 1) (3 + 8) n (nI 0) f v (nI (0 % c)) (nI (min 0 c)) (fun _ => 0) c := hn
  rw [Nat.zero_mod, Nat.zero_min] at hn'
  exact ⟨n, hn'⟩
/-- the plain lastValue: the same value -/
theorem rv_x3 {post : Int32 → Prop} {f : Nat → Int32} {v c a : Nat} (hc8 : c ≤ 8) (hv : v ≤ 8) (hav : a < v) (hac : a < c) (hp : post (f (v - 1 - a))) : wpX3_lastValue post (f, v) (nI c) (nI a) := by
  have L := pk_loop (fun n i s => wX3_lastValue_5 post (nI c) (nI a) f v n s (nI i)) (fun i s => s = if v - 1 - a < i then f (v - 1 - a) else 0) v 0 0 (by omega) (by rw [if_neg (by omega)])
    (fun n s h => pk_le v v (fun _ => by
        rw [if_pos (by omega)] at h
        rw [h]
        exact hp) (fun z => absurd z (by omega)))
    (fun n i s hi h hw => pk_le v i (fun z => absurd z (by omega)) (fun _ => nm_r (e' := nI (v - 1 - i)) (by
        show (nI v - nI 1) - nI i = nI (v - 1 - i)
        rw [pk_sub (by omega), pk_sub (by omega)]) (pk_eq (v - 1 - i) a
      (fun z => br_f (nI_ge hac (by omega)) ⟨pk_in i v hi, nm_r (e' := f i) (by rw [nI_clamp (by omega)]) (nm_r (nI_1 i) (hw _ (by
          rw [if_pos (by omega), show v - 1 - a = i by omega])))⟩)
      (fun z => nm_r (nI_1 i) (hw _ (by
          rw [h]
          by_cases g : v - 1 - a < i
          · rw [if_pos g, if_pos (by omega)]
          · rw [if_neg g, if_neg (by omega)]))))))
  exact L
end
section
/-! The law: the age comes down to one that both lengths allow; then both answers are the same value -/
theorem rv_74 {f : Nat → Int32} {v c mc ms kc ks : Nat} {post : Int32 → St0 → Prop} (hc : 0 < c) (hc8 : c ≤ 8) (hv0 : 0 < v) (hv : v ≤ 8) (hk : kc + 2 ≤ mc) (hs : ks + 11 ≤ ms) (hp : post 1 ()) (a : Nat) (ha : a < 8) :
    ∃ n, wL_lawOf_74 post mc ms (nI c) kc ks f v n (nI a) :=
  ⟨a + 1, pk_loopD (σ := Unit) (fun n i _ => wL_lawOf_74 post mc ms (nI c) kc ks f v n (nI i)) (fun i _ => i < 8)
    (fun n _ _ => pk_le v 0 (fun z => absurd z (by omega)) (fun _ => pk_lt 0 c (fun _ => ⟨2, 11, hk, hs, rv_x2 hc hc8 hv hv0 hc (rv_x3 hc8 hv hv0 hc (br_t rfl hp))⟩) (fun z => absurd z (by omega))))
    (fun n i _ hi hw => pk_le v (i + 1) (fun _ => nm_r (pk_m1 i) (hw () (by omega))) (fun z => pk_lt (i + 1) c (fun y => ⟨2, 11, hk, hs, rv_x2 hc hc8 hv z y (rv_x3 hc8 hv z y (br_t rfl hp))⟩) (fun _ => nm_r (pk_m1 i) (hw () (by omega))))) a () ha⟩
theorem rv_13 {v mc ms : Nat} {x : Int32} {y z : Int64} {post : Int32 → St0 → Prop} (hv0 : 0 < v) (hv : v ≤ 8) (hk : 3 ≤ mc) (hs : 19 ≤ ms) (hp : post 1 ()) (f : Nat → Int32) :
    ∃ n, wL_lawOf_13 post mc ms x y z 1 (0 + v) v n 0 f :=
  pk_loop (fun n i s => wL_lawOf_13 post mc ms x y z 1 (0 + v) v n (nI i) s) (fun _ _ => True) v 0 f (by omega) trivial
    (fun n s _ => pk_le v v (fun _ => by
        obtain ⟨c, hc, ec⟩ := pk_andE ((x.toUInt32 >>> ((3 : Int32).toUInt32 &&& Int32.toUInt32 31)).toInt32) (m := 7) 3 (by decide)
        obtain ⟨a, ha, ea⟩ := pk_andE ((x.toUInt32 >>> ((6 : Int32).toUInt32 &&& Int32.toUInt32 31)).toInt32) (m := 7) 3 (by decide)
        exact nm_r (e' := nI (c + 1)) (by rw [ec, nI_1]) (nm_r ea (rv_74 (by omega) (by omega) hv0 hv (by omega) (by omega) hp a (by omega)))) (fun z => absurd z (by omega)))
    (fun n i s hi _ hw => pk_le v i (fun z => absurd z (by omega)) (fun _ => br_c
      (fun _ => ⟨pk_in i v hi, nm_e (nm_r (nI_1 i) (hw _ trivial))⟩)
      (fun _ => ⟨pk_in i v hi, nm_e (nm_r (nI_1 i) (hw _ trivial))⟩)))
theorem rv_lawOf {mc ms : Nat} {x : Int32} {y z : Int64} {post : Int32 → St0 → Prop} (hk : 3 ≤ mc) (hs : 19 ≤ ms) (hp : post 1 ()) : wpL_lawOf post mc ms () x y z := by
  obtain ⟨j, hj, ej⟩ := pk_andE x (m := 7) 3 (by decide)
  have e : (x &&& 7) + 1 = nI (j + 1) := by rw [ej, nI_1]
  have cl : ((x &&& 7) + 1).toNatClampNeg = j + 1 := by rw [e, nI_clamp (by omega)]
  refine ⟨by rw [e]; exact nI_pos (by omega), nm_r cl ⟨by omega, by omega, by omega, rv_13 (by omega) (by omega) hk hs hp _⟩⟩
theorem rv_cell {post : Int32 → Prop} {L : Nat} {xs : Nat → Int32} (k : Nat) (hL : L ≤ 5) (hk : k < 5) (h : ∀ r, post r) : wpL_cellAt post L xs () (nI k) :=
  pk_le L k (fun _ => h _) (fun z => ⟨pk_in k L z, h _⟩)
/-! ===== WHAT IS OWED for RecentValuesLaw: one statement: the law answers true on every script of L ints xs ===== -/
theorem i_vc (xs : Nat → Int32) (L : Nat) (hL : L ≤ 5) : wpL_law (fun r => r = 1) L xs :=
  rv_cell 0 hL (by omega) (fun _ => rv_cell 1 hL (by omega) (fun _ => rv_cell 2 hL (by omega) (fun _ => rv_cell 3 hL (by omega) (fun _ => rv_cell 4 hL (by omega) (fun _ => ⟨8, 120, by omega, by omega, rv_lawOf (by omega) (by omega) rfl⟩)))))
end
