section
/-- the first s keys differ from one another -/
def lc_Ds (s : Nat) (ks : Nat → Int32) : Prop := ∀ a b : Nat, a < s → b < s → ks a = ks b → a = b
theorem lc_us {f : Nat → Int32} {k : Nat} {x : Int32} : upd f k x k = x := if_pos rfl
theorem lc_un {f : Nat → Int32} {k j : Nat} {x : Int32} (h : j ≠ k) : upd f k x j = f j := if_neg h
theorem lc_sub {a b : Nat} (h : b ≤ a) : nI a - nI b = nI (a - b) := by
  obtain ⟨c, rfl⟩ : ∃ c, a = c + b := ⟨a - b, by omega⟩
  rw [← nI_add, Int32.add_sub_cancel, Nat.add_sub_cancel]

section
variable {s : Nat} {p : Int64} {ks fs ds : Nat → Int32} {key : Int32}

theorem lc_at {j : Nat} (hj : j < 2 ^ 31) (h : ks j = key) : ks (nI j).toNatClampNeg = key := by
  rw [nI_clamp hj]; exact h
theorem lc_nat {j : Nat} (hj : j < 2 ^ 31) (h : ks j ≠ key) : ¬ ks (nI j).toNatClampNeg = key := by
  rw [nI_clamp hj]; exact h

/-- X's scan where no key is the one -/
theorem lc_xno (hs : s ≤ 6) (hn : ∀ i, i < s → ks i ≠ key) {post : Int32 → Prop} (hp : post (-1)) :
    ∀ d j : Nat, j + d = s → wX_indexOf_2 post key (nI s) p ks fs ds (d + 1) (nI j) := by
  intro d
  induction d with
  | zero =>
    intro j hj
    exact br_t (nI_le (by omega) (by omega)) hp
  | succ d ih =>
    intro j hj
    have hk : ¬ ks (nI j).toNatClampNeg = key := lc_nat (by omega) (hn j (by omega))
    exact br_f (nI_ge (by omega) (by omega)) ⟨vp_in_nI (by omega) (by omega), br_f hk (nm_r (nI_1 j) (ih (j + 1) (by omega)))⟩

/-- X's scan up to the place m of the key -/
theorem lc_xyes {m : Nat} (hs : s ≤ 6) (hm : m < s) (hk : ks m = key) (hd : lc_Ds s ks) {post : Int32 → Prop} (hp : post (nI m)) :
    ∀ d j : Nat, j + d = m → wX_indexOf_2 post key (nI s) p ks fs ds (d + 1) (nI j) := by
  intro d
  induction d with
  | zero =>
    intro j hj
    have e : j = m := by omega
    subst e
    exact br_f (nI_ge (by omega) (by omega)) ⟨vp_in_nI (by omega) (by omega), br_t (lc_at (by omega) hk) hp⟩
  | succ d ih =>
    intro j hj
    have hne : ks j ≠ key := fun e => by
      have := hd j m (by omega) hm (e.trans hk.symm)
      omega
    have hk' : ¬ ks (nI j).toNatClampNeg = key := lc_nat (by omega) hne
    exact br_f (nI_ge (by omega) (by omega)) ⟨vp_in_nI (by omega) (by omega), br_f hk' (nm_r (nI_1 j) (ih (j + 1) (by omega)))⟩

/-- Y's scan from j on, where no key from j on is the one -/
theorem lc_yno (hs : s ≤ 6) {post : Int32 → Prop} {x2 : Int32} (hp : post x2) :
    ∀ d j : Nat, j + d = s → (∀ i, j ≤ i → i < s → ks i ≠ key) → wY_find_4 post key (nI s) p ks fs ds (d + 1) x2 (nI j) := by
  intro d
  induction d with
  | zero =>
    intro j hj _
    exact br_t (nI_le (by omega) (by omega)) hp
  | succ d ih =>
    intro j hj hn
    have hk : ¬ ks (nI j).toNatClampNeg = key := lc_nat (by omega) (hn j (by omega) (by omega))
    exact br_f (nI_ge (by omega) (by omega)) ⟨vp_in_nI (by omega) (by omega), br_f hk (nm_r (nI_1 j) (ih (j + 1) (by omega) (fun i hi => hn i (by omega))))⟩

/-- Y's scan over the place m of the key -/
theorem lc_yyes {m : Nat} (hs : s ≤ 6) (hm : m < s) (hk : ks m = key) (hd : lc_Ds s ks) {post : Int32 → Prop} (hp : post (nI m)) :
    ∀ (d j : Nat) (x2 : Int32), j + d = s → j ≤ m → wY_find_4 post key (nI s) p ks fs ds (d + 1) x2 (nI j) := by
  intro d
  induction d with
  | zero =>
    intro j x2 hj hjm
    exact absurd hm (by omega)
  | succ d ih =>
    intro j x2 hj hjm
    by_cases e : j = m
    · subst e
      have hrest : ∀ i, j + 1 ≤ i → i < s → ks i ≠ key := fun i hi his e => by
        have := hd i j his hm (e.trans hk.symm)
        omega
      exact br_f (nI_ge (by omega) (by omega)) ⟨vp_in_nI (by omega) (by omega), br_t (lc_at (by omega) hk) (nm_r (nI_1 j) (lc_yno hs hp d (j + 1) (by omega) hrest))⟩
    · have hne : ks j ≠ key := fun e' => by
        have := hd j m (by omega) hm (e'.trans hk.symm)
        omega
      have hk' : ¬ ks (nI j).toNatClampNeg = key := lc_nat (by omega) hne
      exact br_f (nI_ge (by omega) (by omega)) ⟨vp_in_nI (by omega) (by omega), br_f hk' (nm_r (nI_1 j) (ih (j + 1) x2 (by omega) (by omega)))⟩

/-- both searches give one answer: -1, or the place of the key -/
theorem lc_find (hs : s ≤ 6) (hd : lc_Ds s ks) (p : Int64) (fs ds : Nat → Int32) (key : Int32) :
    ∃ r : Int32, ((r = -1 ∧ ∀ i, i < s → ks i ≠ key) ∨ (∃ m : Nat, m < s ∧ r = nI m ∧ ks m = key))
      ∧ (∀ post : Int32 → Prop, post r → wpX_indexOf post (nI s, p, ks, fs, ds) key)
      ∧ (∀ post : Int32 → Prop, post r → wpY_find post (nI s, p, ks, fs, ds) key) := by
  by_cases h : ∃ m : Nat, m < s ∧ ks m = key
  · obtain ⟨m, hm, hk⟩ := h
    refine ⟨nI m, Or.inr ⟨m, hm, rfl, hk⟩, fun post hp => ?_, fun post hp => ?_⟩
    · unfold wpX_indexOf
      exact ⟨m + 1, lc_xyes hs hm hk hd hp m 0 (by omega)⟩
    · unfold wpY_find
      exact ⟨s + 1, lc_yyes hs hm hk hd hp s 0 (-1) (by omega) (by omega)⟩
  · have hn : ∀ i, i < s → ks i ≠ key := fun i hi e => h ⟨i, hi, e⟩
    refine ⟨-1, Or.inl ⟨rfl, hn⟩, fun post hp => ?_, fun post hp => ?_⟩
    · unfold wpX_indexOf
      exact ⟨s + 1, lc_xno hs hn hp s 0 (by omega)⟩
    · unfold wpY_find
      exact ⟨s + 1, lc_yno hs hp s 0 (by omega) (fun i _ hi => hn i hi)⟩
end
end
section
/-- the places that still count while the prune stands at i and has kept c: those kept, and those ahead -/
def lc_V (s c i a : Nat) : Prop := a < c ∨ (i ≤ a ∧ a < s)
/-- the keys at those places differ from one another -/
def lc_In (s c i : Nat) (ks : Nat → Int32) : Prop := ∀ a b : Nat, lc_V s c i a → lc_V s c i b → ks a = ks b → a = b

theorem lc_In0 {s : Nat} {ks : Nat → Int32} (h : lc_Ds s ks) : lc_In s 0 0 ks := by
  intro a b ha hb e
  unfold lc_V at ha hb
  exact h a b (by omega) (by omega) e
theorem lc_InE {s c : Nat} {ks : Nat → Int32} (h : lc_In s c s ks) : lc_Ds c ks :=
  fun a b ha hb e => h a b (Or.inl ha) (Or.inl hb) e
theorem lc_skip {s c i : Nat} {ks : Nat → Int32} (h : lc_In s c i ks) : lc_In s c (i + 1) ks := by
  intro a b ha hb e
  have ha' : lc_V s c i a := by unfold lc_V at ha ⊢; omega
  have hb' : lc_V s c i b := by unfold lc_V at hb ⊢; omega
  exact h a b ha' hb' e
theorem lc_keep {s c i : Nat} {ks : Nat → Int32} (hc : c ≤ i) (hi : i < s) (h : lc_In s c i ks) :
    lc_In s (c + 1) (i + 1) (upd ks c (ks i)) := by
  intro a b ha hb e
  have hiV : lc_V s c i i := Or.inr ⟨Nat.le_refl i, hi⟩
  by_cases ea : a = c
  · by_cases eb : b = c
    · omega
    · have hb' : lc_V s c i b := by unfold lc_V at hb ⊢; omega
      rw [ea, lc_us, lc_un eb] at e
      have h1 := h i b hiV hb' e
      unfold lc_V at hb
      omega
  · have ha' : lc_V s c i a := by unfold lc_V at ha ⊢; omega
    by_cases eb : b = c
    · rw [eb, lc_us, lc_un ea] at e
      have h1 := h a i ha' hiV e
      unfold lc_V at ha
      omega
    · have hb' : lc_V s c i b := by unfold lc_V at hb ⊢; omega
      rw [lc_un ea, lc_un eb] at e
      exact h a b ha' hb' e

/-- both prunes end alike: c' kept, s - c' dropped -/
theorem lc_prune (b : Int32) (p : Int64) {s : Nat} (hs : s ≤ 6) :
    ∀ (d i c : Nat) (ks fs ds : Nat → Int32), i + d = s → c ≤ i → lc_In s c i ks →
      ∃ (c' : Nat) (ks' fs' ds' : Nat → Int32), c' ≤ 6 ∧ lc_Ds c' ks'
        ∧ (∀ post : Int32 → SX → Prop, post (nI (s - c')) (nI c', p, ks', fs', ds') →
            wX_see_130 post b (nI s) p (d + 1) (nI c) (nI (i - c)) (nI i) ks fs ds)
        ∧ (∀ post : Int32 → SY → Prop, post (nI (s - c')) (nI c', p, ks', fs', ds') →
            wY_see_110 post b (nI s) p (d + 1) (nI c) (nI i) ks fs ds) := by
  intro d
  induction d with
  | zero =>
    intro i c ks fs ds hi hc h
    have e : i = s := by omega
    subst e
    exact ⟨c, ks, fs, ds, by omega, lc_InE h,
      fun post hp => br_t (nI_le (by omega) (by omega)) hp,
      fun post hp => br_t (nI_le (by omega) (by omega)) (nm_r (lc_sub hc) hp)⟩
  | succ d ih =>
    intro i c ks fs ds hi hc h
    have ci : (nI i).toNatClampNeg = i := nI_clamp (by omega)
    have cc : (nI c).toNatClampNeg = c := nI_clamp (by omega)
    have vi : vp_in (nI i) 6 := vp_in_nI (by omega) (by omega)
    have vc : vp_in (nI c) 6 := vp_in_nI (by omega) (by omega)
    have hn : ¬ nI s ≤ nI i := nI_ge (by omega) (by omega)
    have ek : upd ks (nI c).toNatClampNeg (ks (nI i).toNatClampNeg) = upd ks c (ks i) := by rw [ci, cc]
    have ef : upd fs (nI c).toNatClampNeg (fs (nI i).toNatClampNeg) = upd fs c (fs i) := by rw [ci, cc]
    have ed : upd ds (nI c).toNatClampNeg (ds (nI i).toNatClampNeg) = upd ds c (ds i) := by rw [ci, cc]
    by_cases hb : b < fs (nI i).toNatClampNeg + ds (nI i).toNatClampNeg
    · obtain ⟨c', ks', fs', ds', h6, hd', hX, hY⟩ := ih (i + 1) (c + 1) (upd ks c (ks i)) (upd fs c (fs i)) (upd ds c (ds i)) (by omega) (by omega) (lc_keep hc (by omega) h)
      rw [Nat.add_sub_add_right] at hX
      exact ⟨c', ks', fs', ds', h6, hd',
        fun post hp => br_f hn ⟨vi, vi, br_t hb ⟨vi, vc, nm_r ek ⟨vi, vc, nm_r ef ⟨vi, vc, nm_r ed (nm_r (nI_1 c) (nm_r (nI_1 i) (hX post hp)))⟩⟩⟩⟩,
        fun post hp => br_f hn ⟨vi, vi, br_f (Int32.not_le.mpr hb) ⟨vi, vc, nm_r ek ⟨vi, vc, nm_r ef (nm_r (nI_1 c) ⟨vi, vc, nm_r ed (nm_r (nI_1 i) (hY post hp))⟩)⟩⟩⟩⟩
    · obtain ⟨c', ks', fs', ds', h6, hd', hX, hY⟩ := ih (i + 1) c ks fs ds (by omega) (by omega) (lc_skip h)
      have e1 : nI (i - c) + 1 = nI (i + 1 - c) := by
        rw [nI_1, show i - c + 1 = i + 1 - c from by omega]
      exact ⟨c', ks', fs', ds', h6, hd',
        fun post hp => br_f hn ⟨vi, vi, br_f hb (nm_r e1 (nm_r (nI_1 i) (hX post hp)))⟩,
        fun post hp => br_f hn ⟨vi, vi, br_t (Int32.not_lt.mp hb) (nm_r (nI_1 i) (hY post hp))⟩⟩
end
section
/-- the two objects hold the same size, position and arrays; at most six entries, their keys different -/
def i_Rel (_ : Nat) (u : SX) (v : SY) : Prop :=
  ∃ (s : Nat) (p : Int64) (ks fs ds : Nat → Int32), u = (nI s, p, ks, fs, ds) ∧ v = (nI s, p, ks, fs, ds) ∧ s ≤ 6 ∧ lc_Ds s ks
theorem i_up {k : Nat} {u : SX} {v : SY} (h : i_Rel k u v) : i_Rel (k + 2) u v := h
theorem i_vc0 : wpX_init (fun u => wpY_init (fun v => i_Rel 0 u v)) :=
  ⟨0, 0, (fun _ => 0), (fun _ => 0), (fun _ => 0), rfl, rfl, Nat.zero_le 6, fun a _ h => absurd h (Nat.not_lt_zero a)⟩

theorem lc_8 : ¬ (8 : Int64) = 0 := by decide

/-- from the joins behind the entry's write: one answer, related states -/
theorem lc_tail (k : Nat) (b : Int32) {s : Nat} (p : Int64) {ks : Nat → Int32} (fs ds : Nat → Int32) (hs : s ≤ 6) (hd : lc_Ds s ks) :
    ∃ (r : Int32) (u' : SX) (v' : SY), i_Rel k u' v'
      ∧ (∀ post : Int32 → SX → Prop, post r u' → wX_see_96 post b (nI s) p ks fs ds)
      ∧ (∀ post : Int32 → SY → Prop, post r v' → wY_see_82 post b (nI s) p ks fs ds) := by
  by_cases z : (p + 1) - (p + 1) / 8 * 8 = 0
  · obtain ⟨c', ks', fs', ds', h6, hd', hX, hY⟩ := lc_prune b (p + 1) hs s 0 0 ks fs ds (by omega) (Nat.le_refl 0) (lc_In0 hd)
    refine ⟨nI (s - c'), (nI c', p + 1, ks', fs', ds'), (nI c', p + 1, ks', fs', ds'), ⟨c', p + 1, ks', fs', ds', rfl, rfl, h6, hd'⟩, fun post hp => ?_, fun post hp => ?_⟩
    · unfold wX_see_96
      exact nm_e ⟨lc_8, br_t z ⟨s + 1, hX post hp⟩⟩
    · unfold wY_see_82
      exact nm_e ⟨lc_8, br_t z ⟨s + 1, hY post hp⟩⟩
  · refine ⟨0, (nI s, p + 1, ks, fs, ds), (nI s, p + 1, ks, fs, ds), ⟨s, p + 1, ks, fs, ds, rfl, rfl, hs, hd⟩, fun post hp => ?_, fun post hp => ?_⟩
    · unfold wX_see_96
      exact nm_e ⟨lc_8, br_f z hp⟩
    · unfold wY_see_82
      exact nm_e ⟨lc_8, br_f z hp⟩

/-- a new key behind s different ones -/
theorem lc_new {s : Nat} {ks : Nat → Int32} {key : Int32} (hd : lc_Ds s ks) (hn : ∀ i, i < s → ks i ≠ key) : lc_Ds (s + 1) (upd ks s key) := by
  intro a b ha hb e
  by_cases ea : a = s
  · by_cases eb : b = s
    · omega
    · rw [ea, lc_us, lc_un eb] at e
      exact absurd e.symm (hn b (by omega))
  · by_cases eb : b = s
    · rw [eb, lc_us, lc_un ea] at e
      exact absurd e (hn a (by omega))
    · rw [lc_un ea, lc_un eb] at e
      exact hd a b (by omega) (by omega) e

/-- the join at 21 with the key not found and room for it -/
theorem lc_add (k : Nat) (key : Int32) {s : Nat} (p : Int64) {ks : Nat → Int32} (fs ds : Nat → Int32) (hs : s < 6) (hd : lc_Ds s ks) (hn : ∀ i, i < s → ks i ≠ key) :
    ∃ (r : Int32) (u' : SX) (v' : SY), i_Rel k u' v'
      ∧ (∀ post : Int32 → SX → Prop, post r u' → wX_see_21 post key (-1) (nI s) p ks fs ds)
      ∧ (∀ post : Int32 → SY → Prop, post r v' → wY_see_21 post key (-1) (nI s) p ks fs ds) := by
  have cs : (nI s).toNatClampNeg = s := nI_clamp (by omega)
  have vs : vp_in (nI s) 6 := vp_in_nI hs (by omega)
  have neg : (-1 : Int32) < 0 := by decide
  have e1 : ∀ (f : Nat → Int32) (x : Int32), upd f (nI s).toNatClampNeg x = upd f s x := fun f x => by rw [cs]
  obtain ⟨r, u', v', hR, hX, hY⟩ := lc_tail k ((p / 8).toInt32 + 1) p (upd fs s 1) (upd ds s ((p / 8).toInt32 + 1 - 1)) (Nat.succ_le_of_lt hs) (lc_new hd hn)
  refine ⟨r, u', v', hR, fun post hp => ?_, fun post hp => ?_⟩
  · unfold wX_see_21
    exact ⟨lc_8, nm_e (br_t neg ⟨vs, nm_r (e1 _ _) ⟨vs, nm_r (e1 _ _) ⟨vs, nm_r (e1 _ _) (nm_r (nI_1 s) (hX post hp))⟩⟩⟩)⟩
  · unfold wY_see_21 wpY_bucket
    exact ⟨lc_8, br_t neg ⟨vs, nm_r (e1 _ _) ⟨vs, nm_r (e1 _ _) (nm_r (nI_1 s) ⟨vs, nm_r (e1 _ _) (hY post hp)⟩)⟩⟩⟩

/-- the join at 21 with the key found at m -/
theorem lc_inc (k : Nat) (key : Int32) {s m : Nat} (p : Int64) {ks : Nat → Int32} (fs ds : Nat → Int32) (hs : s ≤ 6) (hm : m < s) (hd : lc_Ds s ks) :
    ∃ (r : Int32) (u' : SX) (v' : SY), i_Rel k u' v'
      ∧ (∀ post : Int32 → SX → Prop, post r u' → wX_see_21 post key (nI m) (nI s) p ks fs ds)
      ∧ (∀ post : Int32 → SY → Prop, post r v' → wY_see_21 post key (nI m) (nI s) p ks fs ds) := by
  have vm : vp_in (nI m) 6 := vp_in_nI (by omega) (by omega)
  have pos : ¬ nI m < 0 := nI_pos (by omega)
  obtain ⟨r, u', v', hR, hX, hY⟩ := lc_tail k ((p / 8).toInt32 + 1) p (upd fs (nI m).toNatClampNeg (fs (nI m).toNatClampNeg + 1)) ds hs hd
  refine ⟨r, u', v', hR, fun post hp => ?_, fun post hp => ?_⟩
  · unfold wX_see_21
    exact ⟨lc_8, nm_e (br_f pos ⟨vm, vm, nm_e (hX post hp)⟩)⟩
  · unfold wY_see_21 wpY_bucket
    exact ⟨lc_8, br_f pos ⟨vm, vm, nm_e (hY post hp)⟩⟩

/-- see: one answer, related states -/
theorem lc_see (k : Nat) {u : SX} {v : SY} (I : i_Rel k u v) (key : Int32) :
    ∃ (r : Int32) (u' : SX) (v' : SY), i_Rel (k + 2) u' v'
      ∧ (∀ post : Int32 → SX → Prop, post r u' → wpX_see post u key)
      ∧ (∀ post : Int32 → SY → Prop, post r v' → wpY_see post v key) := by
  obtain ⟨s, p, ks, fs, ds, rfl, rfl, hs, hd⟩ := I
  obtain ⟨q, hq, fX, fY⟩ := lc_find hs hd p fs ds key
  rcases hq with ⟨rfl, hn⟩ | ⟨m, hm, rfl, _⟩
  · have neg : ¬ (0 : Int32) ≤ -1 := by decide
    by_cases h6 : s < 6
    · obtain ⟨r, u', v', hR, hX, hY⟩ := lc_add (k + 2) key p fs ds h6 hd hn
      have hlt : nI s < 6 := nI_lt (b := 6) h6 (by decide)
      have hne : ¬ nI s = 6 := fun e => by
        have := (nI_eq (a := s) (b := 6) (by omega) (by decide)).mp e
        omega
      refine ⟨r, u', v', hR, fun post hp => ?_, fun post hp => ?_⟩
      · unfold wpX_see
        exact fX _ (br_f neg (br_t hlt (hX post hp)))
      · unfold wpY_see
        exact fY _ (br_f neg (br_f hne (hY post hp)))
    · have e6 : s = 6 := by omega
      subst e6
      refine ⟨-1, (nI 6, p, ks, fs, ds), (nI 6, p, ks, fs, ds), ⟨6, p, ks, fs, ds, rfl, rfl, hs, hd⟩, fun post hp => ?_, fun post hp => ?_⟩
      · unfold wpX_see
        exact fX _ (br_f neg (br_f (nI_nlt (b := 6) (Nat.le_refl 6) (by decide)) hp))
      · unfold wpY_see
        exact fY _ (br_f neg (br_t rfl hp))
  · have pos : (0 : Int32) ≤ nI m := nI_pos' (by omega)
    obtain ⟨r, u', v', hR, hX, hY⟩ := lc_inc (k + 2) key p fs ds hs hm hd
    refine ⟨r, u', v', hR, fun post hp => ?_, fun post hp => ?_⟩
    · unfold wpX_see
      exact fX _ (br_t pos (hX post hp))
    · unfold wpY_see
      exact fY _ (br_t pos (hY post hp))

theorem i_vc_see {k : Nat} {u : SX} {v : SY} (I : i_Rel k u v) (hk : k + 2 ≤ 1024) (v1 : Int32) : wpX_see (fun r u' => wpY_see (fun r' v' => r' = r ∧ i_Rel (k + 2) u' v') v v1) u v1 := by
  obtain ⟨r, u', v', hR, hX, hY⟩ := lc_see k I v1
  exact hX _ (hY _ ⟨rfl, hR⟩)
theorem i_vc_freq {k : Nat} {u : SX} {v : SY} (I : i_Rel k u v) (hk : k + 2 ≤ 1024) (v1 : Int32) : wpX_freq (fun r => wpY_freq (fun r' => r' = r ∧ i_Rel (k + 2) u v) v v1) u v1 := by
  have J : i_Rel (k + 2) u v := i_up I
  obtain ⟨s, p, ks, fs, ds, rfl, rfl, hs, hd⟩ := I
  obtain ⟨q, hq, fX, fY⟩ := lc_find hs hd p fs ds v1
  unfold wpX_freq wpY_freq
  rcases hq with ⟨rfl, hn⟩ | ⟨m, hm, rfl, _⟩
  · have neg : ¬ (0 : Int32) ≤ -1 := by decide
    exact fX _ (br_f neg (fY _ (br_f neg ⟨rfl, J⟩)))
  · have pos : (0 : Int32) ≤ nI m := nI_pos' (by omega)
    have vm : vp_in (nI m) 6 := vp_in_nI (by omega) (by omega)
    exact fX _ (br_t pos ⟨vm, fY _ (br_t pos ⟨vm, rfl, J⟩)⟩)
theorem i_vc_bucket {k : Nat} {u : SX} {v : SY} (I : i_Rel k u v) (hk : k + 2 ≤ 1024) : wpX_bucket (fun r => wpY_bucket (fun r' => r' = r ∧ i_Rel (k + 2) u v) v) u := by
  have J : i_Rel (k + 2) u v := i_up I
  obtain ⟨s, p, ks, fs, ds, rfl, rfl, hs, hd⟩ := I
  unfold wpX_bucket wpY_bucket
  exact ⟨lc_8, lc_8, rfl, J⟩
theorem i_vc_seen {k : Nat} {u : SX} {v : SY} (I : i_Rel k u v) (hk : k + 2 ≤ 1024) : wpX_seen (fun r => wpY_seen (fun r' => r' = r ∧ i_Rel (k + 2) u v) v) u := by
  have J : i_Rel (k + 2) u v := i_up I
  obtain ⟨s, p, ks, fs, ds, rfl, rfl, hs, hd⟩ := I
  unfold wpX_seen wpY_seen
  exact ⟨rfl, J⟩
end
