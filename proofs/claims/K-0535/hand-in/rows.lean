section
/-! rows of kit/rows taken as they stand (pk_us .. pk_uLn, nf_*, ts_nf .. ts_or) -/
theorem pk_us {f : Nat → Int32} {k : Nat} {x : Int32} : upd f k x k = x := if_pos rfl
theorem pk_un {f : Nat → Int32} {k j : Nat} {x : Int32} (h : j ≠ k) : upd f k x j = f j := if_neg h
theorem pk_uLs {f : Nat → Int64} {k : Nat} {x : Int64} : vp_updL f k x k = x := if_pos rfl
theorem pk_uLn {f : Nat → Int64} {k j : Nat} {x : Int64} (h : j ≠ k) : vp_updL f k x j = f j := if_neg h
theorem nf_sh : ∀ l, l < 32 → ((1 : Int32) <<< (nI l &&& 31)).toBitVec = BitVec.twoPow 32 l := by decide +kernel
theorem nf_sl : ∀ l, l < 32 → (((nI l).toUInt32 &&& Int32.toUInt32 31).toBitVec % 32).toNat = l := by decide +kernel
theorem nf_tp : ∀ l, l < 32 → BitVec.twoPow 32 l ≠ 0#32 := by decide +kernel
theorem nf_bit (m : Int32) (l : Nat) (hl : l < 32) : ((m.toUInt32 >>> ((nI l).toUInt32 &&& Int32.toUInt32 31)).toInt32 &&& 1) = 0 ↔ (m &&& ((1 : Int32) <<< (nI l &&& 31))) = 0 := by
  have e : ((m.toUInt32 >>> ((nI l).toUInt32 &&& Int32.toUInt32 31)).toInt32).toBitVec = m.toBitVec >>> l := by
    show m.toBitVec >>> (((nI l).toUInt32 &&& Int32.toUInt32 31).toBitVec % 32) = m.toBitVec >>> l
    rw [BitVec.ushiftRight_eq', nf_sl l hl]
  rw [← Int32.toBitVec_inj, ← Int32.toBitVec_inj, Int32.toBitVec_and, Int32.toBitVec_and, nf_sh l hl, e, BitVec.and_twoPow]
  show (m.toBitVec >>> l &&& 1#32) = 0#32 ↔ _ = 0#32
  rw [BitVec.and_one_eq_setWidth_ofBool_getLsbD, BitVec.getLsbD_ushiftRight, Nat.add_zero]
  cases hb : m.toBitVec.getLsbD l
  · exact ⟨fun _ => by simp, fun _ => by decide⟩
  · exact ⟨fun z => absurd z (by decide), fun z => absurd ((if_pos rfl).symm.trans z) (nf_tp l hl)⟩
theorem ts_nf {x : Bool} (h : ¬ x = false) : x = true := by cases x <;> first | rfl | exact absurd rfl h
theorem ts_nt {x : Bool} (h : ¬ x = true) : x = false := by cases x <;> first | rfl | exact absurd rfl h
theorem ts_bit {w : Int64} {s : UInt64} {j : Nat} (hj : j < 64) (hs : s.toNat = j) : ((w.toUInt64 >>> s).toInt64 &&& 1) = 0 ↔ w.toBitVec.getLsbD j = false := by
  have e : (w.toUInt64 >>> s).toInt64.toBitVec = w.toBitVec >>> j := by
    apply BitVec.eq_of_toNat_eq
    show (w.toUInt64 >>> s).toNat = _
    rw [UInt64.toNat_shiftRight, hs, Nat.mod_eq_of_lt hj, BitVec.toNat_ushiftRight]
    rfl
  rw [← Int64.toBitVec_inj, Int64.toBitVec_and, e]
  show w.toBitVec >>> j &&& 1#64 = 0#64 ↔ _
  constructor
  · intro h
    have t := congrArg (fun x => x.getLsbD 0) h
    simpa using t
  · intro h
    apply BitVec.eq_of_getLsbD_eq
    intro i hi
    cases i with
    | zero => simp [h]
    | succ i => simp
theorem ts_or {w m : Int64} {j : Nat} (hj : j < 64) (hm : m.toBitVec = BitVec.twoPow 64 j) : (w ||| m) = w ↔ w.toBitVec.getLsbD j = true := by
  rw [← Int64.toBitVec_inj, Int64.toBitVec_or, hm]
  constructor
  · intro h
    have t := congrArg (fun x => x.getLsbD j) h
    simp only [BitVec.getLsbD_or, BitVec.getLsbD_twoPow] at t
    simpa [hj] using t.symm
  · intro h
    apply BitVec.eq_of_getLsbD_eq
    intro i hi
    rw [BitVec.getLsbD_or, BitVec.getLsbD_twoPow]
    by_cases e : j = i
    · subst e; rw [h, Bool.true_or]
    · simp [e]
end
section
/-! single bits of a long and of an int, at the places that the two sides test and set -/
theorem gc_m64 : ∀ l, l < 5 → ((1 : Int64) <<< ((nI l).toInt64 &&& 63)).toBitVec = BitVec.twoPow 64 l := by decide +kernel
theorem gc_tp64 : ∀ l, l < 5 → ¬ BitVec.twoPow 64 l = 0#64 := by decide +kernel
theorem gc_cu : ∀ l, l < 5 → ((nI l).toInt64.toUInt64 &&& Int64.toUInt64 63).toNat = l := by decide +kernel
def gc_b (w : Int64) (j : Nat) : Bool := w.toBitVec.getLsbD j
/-- the component's test of a long's bit -/
theorem gc_and64 (w : Int64) (j : Nat) (hj : j < 5) : (w &&& ((1 : Int64) <<< ((nI j).toInt64 &&& 63))) = 0 ↔ gc_b w j = false := by
  rw [← Int64.toBitVec_inj, Int64.toBitVec_and, gc_m64 j hj, BitVec.and_twoPow]
  show _ = 0#64 ↔ w.toBitVec.getLsbD j = false
  cases hb : w.toBitVec.getLsbD j
  · exact ⟨fun _ => rfl, fun _ => by simp⟩
  · exact ⟨fun z => absurd ((if_pos rfl).symm.trans z) (gc_tp64 j hj), fun z => nomatch z⟩
/-- the reference's test of a long's bit -/
theorem gc_shr64 (w : Int64) (j : Nat) (hj : j < 5) : ((w.toUInt64 >>> ((nI j).toInt64.toUInt64 &&& Int64.toUInt64 63)).toInt64 &&& 1) = 0 ↔ gc_b w j = false :=
  ts_bit (by omega) (gc_cu j hj)
theorem gc_same64 (w : Int64) (j : Nat) (hj : j < 5) : (w ||| ((1 : Int64) <<< ((nI j).toInt64 &&& 63))) = w ↔ gc_b w j = true :=
  ts_or (by omega) (gc_m64 j hj)
theorem gc_or64 (w : Int64) (j : Nat) (hj : j < 5) (i : Nat) : gc_b (w ||| ((1 : Int64) <<< ((nI j).toInt64 &&& 63))) i = (gc_b w i || decide (j = i)) := by
  unfold gc_b
  rw [Int64.toBitVec_or, gc_m64 j hj, BitVec.getLsbD_or, BitVec.getLsbD_twoPow]
  have h : j < 64 := by omega
  simp [h]
/-- a bit of an int mask -/
theorem gc_and32 (m : Int32) (c : Nat) (hc : c < 32) : (m &&& ((1 : Int32) <<< (nI c &&& 31))) = 0 ↔ m.toBitVec.getLsbD c = false := by
  rw [← Int32.toBitVec_inj, Int32.toBitVec_and, nf_sh c hc, BitVec.and_twoPow]
  show _ = 0#32 ↔ _
  cases hb : m.toBitVec.getLsbD c
  · exact ⟨fun _ => rfl, fun _ => by simp⟩
  · exact ⟨fun z => absurd ((if_pos rfl).symm.trans z) (nf_tp c hc), fun z => nomatch z⟩
theorem gc_or32 (m : Int32) (a c : Nat) (ha : a < 32) (hc : c < 32) : ((m ||| ((1 : Int32) <<< (nI a &&& 31))) &&& ((1 : Int32) <<< (nI c &&& 31))) = 0 ↔ (m &&& ((1 : Int32) <<< (nI c &&& 31))) = 0 ∧ ¬ a = c := by
  rw [gc_and32 _ c hc, gc_and32 _ c hc, Int32.toBitVec_or, nf_sh a ha, BitVec.getLsbD_or, BitVec.getLsbD_twoPow]
  simp [ha]
theorem gc_zero32 (c : Nat) (hc : c < 32) : ((0 : Int32) &&& ((1 : Int32) <<< (nI c &&& 31))) = 0 := by
  rw [gc_and32 _ c hc]
  exact BitVec.getLsbD_zero
/-! small numbers -/
theorem gc_m1 : vp_nar .byte (-1) = -1 := by rw [vp_nar_byte]; decide
theorem gc_nar : ∀ c, c < 5 → vp_nar .byte (nI c).toInt8.toInt32 = nI c := by
  intro c hc
  rw [vp_nar_byte]
  revert c
  decide +kernel
theorem gc_ne : ∀ c, c < 5 → ¬ (-1 : Int32) = nI c := by decide +kernel
theorem gc_nn : ∀ c, c < 5 → ¬ nI c < 0 := by decide +kernel
theorem gc_n0 : ∀ c, c < 5 → 0 ≤ nI c := by decide +kernel
theorem gc_in {i : Nat} (hi : i < 5) : vp_in (nI i) 5 := vp_in_nI hi (by omega)
theorem gc_cl {i : Nat} (hi : i < 5) : (nI i).toNatClampNeg = i := nI_clamp (by omega)
theorem gc_lt4 : ∀ c, c < 4 → ¬ (4 : Int32) ≤ nI c := by decide +kernel
end
section
/-! what the two states have in common, and what keeps it -/
/-- the edges lie in both directions -/
def gc_sym (adj : Nat → Int64) : Prop := ∀ i j, i < 5 → j < 5 → gc_b (adj i) j = gc_b (adj j) i
/-- each colour is -1 (none) or 0 .. 4 -/
def gc_col (col : Nat → Int32) : Prop := ∀ i, i < 5 → col i = -1 ∨ ∃ c, c < 5 ∧ col i = nI c
/-- the reference's flags tell which colours are on some vertex -/
def gc_seen (col seen : Nat → Int32) : Prop := ∀ c, c < 5 → (seen c = 0 ↔ ∀ i, i < 5 → ¬ col i = nI c)
/-- how many flags below n are set -/
def gc_cnt (seen : Nat → Int32) : Nat → Int32
  | 0 => 0
  | n + 1 => if seen n = 0 then gc_cnt seen n else gc_cnt seen n + 1
theorem gc_cnt_t {seen : Nat → Int32} {n : Nat} (h : seen n = 0) : gc_cnt seen (n + 1) = gc_cnt seen n := if_pos h
theorem gc_cnt_f {seen : Nat → Int32} {n : Nat} (h : ¬ seen n = 0) : gc_cnt seen (n + 1) = gc_cnt seen n + 1 := if_neg h
theorem gc_cnt_lo (seen : Nat → Int32) (c : Nat) : ∀ n, n ≤ c → gc_cnt (upd seen c 1) n = gc_cnt seen n := by
  intro n
  induction n with
  | zero => intro _; rfl
  | succ n ih =>
    intro h
    have e : upd seen c 1 n = seen n := pk_un (by omega)
    by_cases z : seen n = 0
    · rw [gc_cnt_t z, gc_cnt_t (e.trans z), ih (by omega)]
    · rw [gc_cnt_f z, gc_cnt_f (fun y => z (e.symm.trans y)), ih (by omega)]
theorem gc_cnt_hi (seen : Nat → Int32) (c : Nat) (hc : seen c = 0) : ∀ n, c < n → gc_cnt (upd seen c 1) n = gc_cnt seen n + 1 := by
  intro n
  induction n with
  | zero => intro h; omega
  | succ n ih =>
    intro h
    by_cases q : n = c
    · subst q
      have e : upd seen n 1 n = 1 := pk_us
      have e1 : ¬ upd seen n 1 n = 0 := by rw [e]; decide
      rw [gc_cnt_t hc, gc_cnt_f e1, gc_cnt_lo seen n n (Nat.le_refl n)]
    · have e : upd seen c 1 n = seen n := pk_un q
      by_cases z : seen n = 0
      · rw [gc_cnt_t z, gc_cnt_t (e.trans z), ih (by omega)]
      · rw [gc_cnt_f z, gc_cnt_f (fun y => z (e.symm.trans y)), ih (by omega)]
/-- both directions of the edge i, j laid in, as both sides write it -/
def gc_put (adj : Nat → Int64) (i j : Nat) : Nat → Int64 :=
  vp_updL (vp_updL adj i (adj i ||| ((1 : Int64) <<< ((nI j).toInt64 &&& 63)))) j
    ((vp_updL adj i (adj i ||| ((1 : Int64) <<< ((nI j).toInt64 &&& 63)))) j ||| ((1 : Int64) <<< ((nI i).toInt64 &&& 63)))
theorem gc_put_b (adj : Nat → Int64) {i j : Nat} (hi : i < 5) (hj : j < 5) (hn : i ≠ j) (x y : Nat) :
    gc_b (gc_put adj i j x) y = (gc_b (adj x) y || (decide (x = i) && decide (y = j)) || (decide (x = j) && decide (y = i))) := by
  unfold gc_put
  by_cases e : x = j
  · subst e
    rw [pk_uLs, pk_uLn (fun z => hn z.symm), gc_or64 _ i hi]
    have hx : ¬ x = i := fun z => hn z.symm
    have hc : decide (i = y) = decide (y = i) := by simp [eq_comm]
    simp [hx, hc]
  · rw [pk_uLn e]
    by_cases e2 : x = i
    · subst e2
      rw [pk_uLs, gc_or64 _ j hj]
      have hc : decide (j = y) = decide (y = j) := by simp [eq_comm]
      simp [e, hc]
    · rw [pk_uLn e2]
      simp [e, e2]
theorem gc_put_sym {adj : Nat → Int64} (h : gc_sym adj) {i j : Nat} (hi : i < 5) (hj : j < 5) (hn : i ≠ j) : gc_sym (gc_put adj i j) := by
  intro x y hx hy
  rw [gc_put_b adj hi hj hn, gc_put_b adj hi hj hn, h x y hx hy, Bool.or_assoc, Bool.or_assoc]
  congr 1
  rw [Bool.or_comm, Bool.and_comm, Bool.and_comm (decide (x = i))]
/-- an edge that lies already changes nothing, for it lies in both directions -/
theorem gc_put_same {adj : Nat → Int64} (h : gc_sym adj) {i j : Nat} (hi : i < 5) (hj : j < 5) (hn : i ≠ j) (hb : gc_b (adj i) j = true) : gc_put adj i j = adj := by
  have hb2 : gc_b (adj j) i = true := (h j i hj hi).trans hb
  unfold gc_put
  rw [(gc_same64 (adj i) j hj).mpr hb]
  have e1 : vp_updL adj i (adj i) = adj := by
    funext k
    by_cases e : k = i
    · subst e; exact pk_uLs
    · exact pk_uLn e
  rw [e1, (gc_same64 (adj j) i hi).mpr hb2]
  funext k
  by_cases e : k = j
  · subst e; exact pk_uLs
  · exact pk_uLn e
/-- a vertex without a colour gets c -/
theorem gc_col_put {col : Nat → Int32} (h : gc_col col) (i c : Nat) (hc : c < 5) : gc_col (upd col i (nI c)) := by
  intro x hx
  by_cases e : x = i
  · subst e; exact Or.inr ⟨c, hc, pk_us⟩
  · rw [pk_un e]; exact h x hx
theorem gc_nc {col : Nat → Int32} (h : gc_col col) {i : Nat} (hi : i < 5) (hz : col i < 0) : col i = -1 := by
  rcases h i hi with e | ⟨c, hc, e⟩
  · exact e
  · rw [e] at hz; exact absurd hz (gc_nn c hc)
theorem gc_nI_inj {a c : Nat} (ha : a < 5) (hc : c < 5) (h : nI a = nI c) : a = c := (nI_eq (by omega) (by omega)).mp h
/-- the colour was seen: the flags stay -/
theorem gc_seen_old {col seen : Nat → Int32} (h : gc_seen col seen) {i c : Nat} (hi : i < 5) (hc : c < 5) (hv : col i = -1) (hs : ¬ seen c = 0) : gc_seen (upd col i (nI c)) seen := by
  intro d hd
  constructor
  · intro z x hx
    by_cases e : x = i
    · subst e
      rw [pk_us]
      intro q
      rw [gc_nI_inj hc hd q] at hs
      exact hs z
    · rw [pk_un e]
      exact (h d hd).mp z x hx
  · intro z
    refine (h d hd).mpr fun x hx => ?_
    by_cases e : x = i
    · subst e; rw [hv]; exact gc_ne d hd
    · have t := z x hx
      rw [pk_un e] at t
      exact t
/-- the colour is new: its flag is set -/
theorem gc_seen_new {col seen : Nat → Int32} (h : gc_seen col seen) {i c : Nat} (hi : i < 5) (hc : c < 5) (hv : col i = -1) : gc_seen (upd col i (nI c)) (upd seen c 1) := by
  intro d hd
  by_cases q : d = c
  · subst q
    constructor
    · intro z
      rw [pk_us] at z
      exact absurd z (by decide)
    · intro z
      exact absurd pk_us (z i hi)
  · rw [pk_un q]
    constructor
    · intro z x hx
      by_cases e : x = i
      · subst e
        rw [pk_us]
        exact fun y => q (gc_nI_inj hc hd y).symm
      · rw [pk_un e]
        exact (h d hd).mp z x hx
    · intro z
      refine (h d hd).mpr fun x hx => ?_
      by_cases e : x = i
      · subst e; rw [hv]; exact gc_ne d hd
      · have t := z x hx
        rw [pk_un e] at t
        exact t
end
section
/-! edge: behind the checks -/
theorem gc_edge {adj : Nat → Int64} (col seen : Nat → Int32) (f : Int32) (hs : gc_sym adj) {i j : Nat} (hi : i < 5) (hj : j < 5) (hn : i ≠ j) :
    ∃ (r : Int32) (adj' : Nat → Int64), gc_sym adj' ∧ (∀ post : Int32 → SX → Prop, post r (adj', col) → wX_edge_55 post (nI i) (nI j) adj col)
      ∧ (∀ post : Int32 → SY → Prop, post r (f, adj', col, seen) → wY_edge_55 post (nI i) (nI j) f adj col seen) := by
  have pi := gc_in hi
  have pj := gc_in hj
  have ci := gc_cl hi
  have cj := gc_cl hj
  cases hb : gc_b (adj i) j
  · have z := (gc_and64 (adj i) j hj).mpr hb
    have zy : ¬ adj i = (adj i ||| ((1 : Int64) <<< ((nI j).toInt64 &&& 63))) := by
      intro e
      have t := (gc_same64 (adj i) j hj).mp e.symm
      rw [hb] at t
      cases t
    refine ⟨1, gc_put adj i j, gc_put_sym hs hi hj hn, fun post hp => ?_, fun post hp => ?_⟩
    · unfold wX_edge_55
      rw [ci, cj]
      refine ⟨pi, br_t z ⟨pi, pi, fun a ea => ⟨pj, pj, fun b eb => ?_⟩⟩⟩
      subst ea
      subst eb
      exact hp
    · unfold wY_edge_55
      rw [ci, cj]
      refine ⟨pi, fun q eq => ⟨pi, pi, fun a ea y ey => ⟨pj, pj, fun b eb => ?_⟩⟩⟩
      subst ea
      subst eb
      subst eq
      subst ey
      exact br_f zy hp
  · have z : ¬ (adj i &&& ((1 : Int64) <<< ((nI j).toInt64 &&& 63))) = 0 := by
      intro e
      have t := (gc_and64 (adj i) j hj).mp e
      rw [hb] at t
      cases t
    have zy := ((gc_same64 (adj i) j hj).mpr hb).symm
    refine ⟨0, adj, hs, fun post hp => ?_, fun post hp => ?_⟩
    · unfold wX_edge_55
      rw [ci, cj]
      exact ⟨pi, br_f z hp⟩
    · unfold wY_edge_55
      rw [ci, cj]
      refine ⟨pi, fun q eq => ⟨pi, pi, fun a ea y ey => ⟨pj, pj, fun b eb => ?_⟩⟩⟩
      subst ea
      have eb2 : b = adj := eb.trans (gc_put_same hs hi hj hn hb)
      rw [eq, ey, eb2]
      exact br_t zy hp
/-! paint: the mask of the neighbours' colours, in lockstep -/
theorem gc_p27 (adj : Nat → Int64) (col seen : Nat → Int32) (f : Int32) {i : Nat} (hi : i < 5) : ∀ d j : Nat, j + d = 5 → ∀ m : Int32,
    ∃ m' : Int32, (∀ post : Int32 → SX → Prop, (∃ n75 : Nat, wX_paint_75 post (nI i) m' adj col n75 0) → wX_paint_27 post (nI i) adj col (d + 1) m (nI j))
      ∧ (∀ post : Int32 → SY → Prop, (∃ n75 : Nat, wY_paint_75 post (nI i) m' f adj col seen n75 0) → wY_paint_27 post (nI i) f adj col seen (d + 1) m (nI j)) := by
  intro d
  induction d with
  | zero =>
    intro j hj m
    have h : (5 : Int32) ≤ nI j := by
      have e : j = 5 := by omega
      rw [e]; decide
    exact ⟨m, fun _ hp => br_t h hp, fun _ hp => br_t h hp⟩
  | succ d ih =>
    intro j hj m
    have hj5 : j < 5 := by omega
    have h := lt5' j hj5
    have pi := gc_in hi
    have pj := gc_in hj5
    cases hb : gc_b (adj (nI i).toNatClampNeg) j
    · have z := (gc_and64 (adj (nI i).toNatClampNeg) j hj5).mpr hb
      have zy := (gc_shr64 (adj (nI i).toNatClampNeg) j hj5).mpr hb
      obtain ⟨m', hX, hY⟩ := ih (j + 1) (by omega) m
      refine ⟨m', fun post hp => br_f h ⟨pi, br_t z fun y ey => ?_⟩, fun post hp => br_f h ⟨pi, br_t zy fun y ey => ?_⟩⟩
      · rw [ey, nI_1]; exact hX post hp
      · rw [ey, nI_1]; exact hY post hp
    · have z : ¬ (adj (nI i).toNatClampNeg &&& ((1 : Int64) <<< ((nI j).toInt64 &&& 63))) = 0 := by
        intro e
        have t := (gc_and64 _ j hj5).mp e
        rw [hb] at t
        cases t
      have zy : ¬ (((adj (nI i).toNatClampNeg).toUInt64 >>> ((nI j).toInt64.toUInt64 &&& Int64.toUInt64 63)).toInt64 &&& 1) = 0 := by
        intro e
        have t := (gc_shr64 _ j hj5).mp e
        rw [hb] at t
        cases t
      by_cases zc : col (nI j).toNatClampNeg < 0
      · obtain ⟨m', hX, hY⟩ := ih (j + 1) (by omega) m
        refine ⟨m', fun post hp => br_f h ⟨pi, br_f z ⟨pj, br_t zc fun y ey => ?_⟩⟩, fun post hp => br_f h ⟨pi, br_f zy ⟨pj, br_t zc fun y ey => ?_⟩⟩⟩
        · rw [ey, nI_1]; exact hX post hp
        · rw [ey, nI_1]; exact hY post hp
      · obtain ⟨m', hX, hY⟩ := ih (j + 1) (by omega) (m ||| ((1 : Int32) <<< (col (nI j).toNatClampNeg &&& 31)))
        refine ⟨m', fun post hp => br_f h ⟨pi, br_f z ⟨pj, br_f zc ⟨pj, fun x ex y ey => ?_⟩⟩⟩, fun post hp => br_f h ⟨pi, br_f zy ⟨pj, br_f zc ⟨pj, fun x ex y ey => ?_⟩⟩⟩⟩
        · rw [ex, ey, nI_1]; exact hX post hp
        · rw [ex, ey, nI_1]; exact hY post hp
/-! paint: the least free colour, in lockstep -/
theorem gc_p75 (adj : Nat → Int64) (col seen : Nat → Int32) (f x1 m : Int32) : ∀ d c : Nat, c + d = 4 →
    ∃ c' : Nat, c' < 5 ∧ (∀ post : Int32 → SX → Prop, wX_paint_94 post x1 (nI c') adj col → wX_paint_75 post x1 m adj col (d + 1) (nI c))
      ∧ (∀ post : Int32 → SY → Prop, wY_paint_94 post x1 (nI c') f adj col seen → wY_paint_75 post x1 m f adj col seen (d + 1) (nI c)) := by
  intro d
  induction d with
  | zero =>
    intro c hc
    have h : (4 : Int32) ≤ nI c := by
      have e : c = 4 := by omega
      rw [e]; decide
    exact ⟨c, by omega, fun _ hp => br_t h hp, fun _ hp => br_t h hp⟩
  | succ d ih =>
    intro c hc
    have h := gc_lt4 c (by omega)
    have hb := nf_bit m c (by omega)
    by_cases z : (m &&& ((1 : Int32) <<< (nI c &&& 31))) = 0
    · exact ⟨c, by omega, fun _ hp => br_f h (br_t z hp), fun _ hp => br_f h (br_t (hb.mpr z) hp)⟩
    · obtain ⟨c', hc', hX, hY⟩ := ih (c + 1) (by omega)
      refine ⟨c', hc', fun post hp => br_f h (br_f z fun y ey => ?_), fun post hp => br_f h (br_f (fun e => z (hb.mp e)) fun y ey => ?_)⟩
      · rw [ey, nI_1]; exact hX post hp
      · rw [ey, nI_1]; exact hY post hp
/-! paint: the colour is laid down, the reference's flag and count follow -/
theorem gc_p94 (adj : Nat → Int64) {col seen : Nat → Int32} (hc : gc_col col) (hn : gc_seen col seen) {i c : Nat} (hi : i < 5) (h5 : c < 5) (hv : col i < 0) :
    ∃ col' seen' : Nat → Int32, gc_col col' ∧ gc_seen col' seen' ∧ (∀ post : Int32 → SX → Prop, post (nI c) (adj, col') → wX_paint_94 post (nI i) (nI c) adj col)
      ∧ (∀ post : Int32 → SY → Prop, post (nI c) (gc_cnt seen' 5, adj, col', seen') → wY_paint_94 post (nI i) (nI c) (gc_cnt seen 5) adj col seen) := by
  have pi := gc_in hi
  have pc := gc_in h5
  have ci := gc_cl hi
  have cc := gc_cl h5
  have hv1 := gc_nc hc hi hv
  have hX : ∀ post : Int32 → SX → Prop, post (nI c) (adj, upd col i (nI c)) → wX_paint_94 post (nI i) (nI c) adj col := by
    intro post hp
    unfold wX_paint_94
    rw [ci, gc_nar c h5]
    exact ⟨pi, nm_e hp⟩
  by_cases z : seen c = 0
  · refine ⟨upd col i (nI c), upd seen c 1, gc_col_put hc i c h5, gc_seen_new hn hi h5 hv1, hX, fun post hp => ?_⟩
    have e1 : vp_nar .boolean 1 = 1 := rfl
    unfold wY_paint_94
    rw [ci, cc, gc_nar c h5, e1]
    refine ⟨pi, fun a ea => ⟨pc, br_t z ⟨pc, fun b eb g eg => ?_⟩⟩⟩
    rw [ea, eb, eg, ← gc_cnt_hi seen c z 5 h5]
    exact hp
  · refine ⟨upd col i (nI c), seen, gc_col_put hc i c h5, gc_seen_old hn hi h5 hv1 z, hX, fun post hp => ?_⟩
    unfold wY_paint_94
    rw [ci, cc, gc_nar c h5]
    refine ⟨pi, fun a ea => ⟨pc, br_f z ?_⟩⟩
    rw [ea]
    exact hp
/-! used: the component's mask, then its count -/
theorem gc_u4 (adj : Nat → Int64) {col : Nat → Int32} (hc : gc_col col) : ∀ d j : Nat, j + d = 5 → ∀ m : Int32,
    (∀ c, c < 5 → ((m &&& ((1 : Int32) <<< (nI c &&& 31))) = 0 ↔ ∀ i, i < j → ¬ col i = nI c)) →
    ∃ m' : Int32, (∀ c, c < 5 → ((m' &&& ((1 : Int32) <<< (nI c &&& 31))) = 0 ↔ ∀ i, i < 5 → ¬ col i = nI c))
      ∧ ∀ post : Int32 → Prop, (∃ n39 : Nat, wX_used_39 post m' adj col n39 0 0) → wX_used_4 post adj col (d + 1) m (nI j) := by
  intro d
  induction d with
  | zero =>
    intro j hj m hm
    have e : j = 5 := by omega
    subst e
    have h : (5 : Int32) ≤ nI 5 := by decide
    exact ⟨m, hm, fun _ hp => br_t h hp⟩
  | succ d ih =>
    intro j hj m hm
    have hj5 : j < 5 := by omega
    have h := lt5' j hj5
    have pj := gc_in hj5
    have cj := gc_cl hj5
    rcases hc j hj5 with e | ⟨a, ha, e⟩
    · have zc : col (nI j).toNatClampNeg < 0 := by rw [cj, e]; decide
      obtain ⟨m', h1, h2⟩ := ih (j + 1) (by omega) m (by
        intro c hc5
        rw [hm c hc5]
        constructor
        · intro z i hi
          by_cases q : i = j
          · rw [q, e]; exact gc_ne c hc5
          · exact z i (by omega)
        · intro z i hi
          exact z i (by omega))
      refine ⟨m', h1, fun post hp => br_f h ⟨pj, br_t zc fun y ey => ?_⟩⟩
      rw [ey, nI_1]
      exact h2 post hp
    · have zc : ¬ col (nI j).toNatClampNeg < 0 := by rw [cj, e]; exact gc_nn a ha
      obtain ⟨m', h1, h2⟩ := ih (j + 1) (by omega) (m ||| ((1 : Int32) <<< (nI a &&& 31))) (by
        intro c hc5
        rw [gc_or32 m a c (by omega) (by omega), hm c hc5]
        constructor
        · intro z i hi
          by_cases q : i = j
          · rw [q, e]; exact fun y => z.2 (gc_nI_inj ha hc5 y)
          · exact z.1 i (by omega)
        · intro z
          refine ⟨fun i hi => z i (by omega), fun y => ?_⟩
          rw [← y] at z
          exact z j (by omega) e)
      refine ⟨m', h1, fun post hp => br_f h ⟨pj, br_f zc ⟨pj, fun x ex y ey => ?_⟩⟩⟩
      rw [ex, ey, nI_1, cj, e]
      exact h2 post hp
theorem gc_u39 (adj : Nat → Int64) (col : Nat → Int32) {seen : Nat → Int32} {m : Int32}
    (hm : ∀ c, c < 5 → ((m &&& ((1 : Int32) <<< (nI c &&& 31))) = 0 ↔ seen c = 0)) (post : Int32 → Prop) (hp : post (gc_cnt seen 5)) :
    ∀ d j : Nat, j + d = 5 → wX_used_39 post m adj col (d + 1) (gc_cnt seen j) (nI j) := by
  intro d
  induction d with
  | zero =>
    intro j hj
    have e : j = 5 := by omega
    subst e
    have h : (5 : Int32) ≤ nI 5 := by decide
    exact br_t h hp
  | succ d ih =>
    intro j hj
    have hj5 : j < 5 := by omega
    have h := lt5' j hj5
    have t := ih (j + 1) (by omega)
    by_cases z : seen j = 0
    · refine br_f h (br_t ((hm j hj5).mpr z) fun y ey => ?_)
      rw [ey, nI_1, ← gc_cnt_t z]
      exact t
    · refine br_f h (br_f (fun e => z ((hm j hj5).mp e)) fun x ex y ey => ?_)
      rw [ex, ey, nI_1, ← gc_cnt_f z]
      exact t
/-! the constructors -/
theorem gc_i20 {post : SX → Prop} {n j : Nat} {adj : Nat → Int64} {col : Nat → Int32} (hj : j < 5)
    (h : wX_init_20 post n (nI (j + 1)) (vp_updL adj j 0) (upd col j (-1))) : wX_init_20 post (n + 1) (nI j) adj col := by
  refine br_f (lt5' j hj) ⟨gc_in hj, fun a ea => ⟨gc_in hj, fun b eb x ex => ?_⟩⟩
  rw [ea, eb, ex, nI_1, gc_m1, gc_cl hj]
  exact h
def gc_c0 : Nat → Int32 := upd (upd (upd (upd (upd (fun _ => 0) 0 (-1)) 1 (-1)) 2 (-1)) 3 (-1)) 4 (-1)
theorem gc_c0_v : ∀ i, i < 5 → gc_c0 i = -1 := by decide +kernel
theorem gc_a0 : vp_updL (vp_updL (vp_updL (vp_updL (vp_updL (fun _ => 0) 0 0) 1 0) 2 0) 3 0) 4 0 = fun _ => 0 := by
  have e : ∀ k, vp_updL (fun _ => 0) k 0 = fun _ => 0 := by
    intro k
    funext x
    by_cases q : x = k
    · subst q; exact pk_uLs
    · exact pk_uLn q
  rw [e, e, e, e, e]
theorem gc_x0 (post : SX → Prop) (hp : post ((fun _ => 0), gc_c0)) : wpX_init post := by
  refine ⟨6, ?_⟩
  have h : (5 : Int32) ≤ nI 5 := by decide
  refine gc_i20 (j := 0) (by omega) (gc_i20 (j := 1) (by omega) (gc_i20 (j := 2) (by omega) (gc_i20 (j := 3) (by omega) (gc_i20 (j := 4) (by omega) (br_t h ?_)))))
  rw [gc_a0]
  exact hp
theorem gc_y0 (post : SY → Prop) (hp : post (0, (fun _ => 0), gc_c0, (fun _ => 0))) : wpY_init post := by
  unfold wpY_init
  rw [gc_m1]
  intro a ea b eb c ec d ed e ee
  rw [ee, ed, ec, eb, ea]
  exact hp
end
section
/-- the same edges (in both directions) and colours on both sides; the reference's flags tell the colours in use, its count counts them -/
def i_Rel (_ : Nat) (u : SX) (v : SY) : Prop := ∃ (adj : Nat → Int64) (col seen : Nat → Int32), u = (adj, col) ∧ v = (gc_cnt seen 5, adj, col, seen) ∧ gc_sym adj ∧ gc_col col ∧ gc_seen col seen
theorem i_up {k : Nat} {u : SX} {v : SY} (h : i_Rel k u v) : i_Rel (k + 3) u v := h
theorem gc_b0 (j : Nat) : gc_b 0 j = false := BitVec.getLsbD_zero
theorem gc_sym0 : gc_sym (fun _ => 0) := fun i j _ _ => (gc_b0 j).trans (gc_b0 i).symm
theorem i_vc0 : wpX_init (fun u => wpY_init (fun v => i_Rel 0 u v)) := by
  refine gc_x0 _ (gc_y0 _ ⟨fun _ => 0, gc_c0, fun _ => 0, rfl, rfl, gc_sym0, fun i hi => Or.inl (gc_c0_v i hi), fun c hc => ?_⟩)
  refine ⟨fun _ i hi => ?_, fun _ => rfl⟩
  rw [gc_c0_v i hi]
  exact gc_ne c hc
theorem i_vc_edge {k : Nat} {u : SX} {v : SY} (I : i_Rel k u v) (hk : k + 3 ≤ 1536) (v1 : Int32) (v2 : Int32) : wpX_edge (fun r u' => wpY_edge (fun r' v' => r' = r ∧ i_Rel (k + 3) u' v') v v1 v2) u v1 v2 := by
  obtain ⟨adj, col, seen, rfl, rfl, hs, hc, hn⟩ := I
  have R : i_Rel (k + 3) (adj, col) (gc_cnt seen 5, adj, col, seen) := ⟨adj, col, seen, rfl, rfl, hs, hc, hn⟩
  by_cases a0 : v1 < 0
  · exact br_t a0 (br_t a0 ⟨rfl, R⟩)
  by_cases a4 : 4 < v1
  · exact br_f a0 (br_t a4 (br_f a0 (br_t a4 ⟨rfl, R⟩)))
  by_cases b0 : v2 < 0
  · exact br_f a0 (br_f a4 (br_t b0 (br_f a0 (br_f a4 (br_t b0 ⟨rfl, R⟩)))))
  by_cases b4 : v2 ≤ 4
  · obtain ⟨i, hi, rfl⟩ := nI_of2 (M := 4) (n := 4) (by decide) a0 (Int32.not_lt.mp a4)
    obtain ⟨j, hj, rfl⟩ := nI_of2 (M := 4) (n := 4) (by decide) b0 b4
    by_cases e : nI i = nI j
    · exact br_f a0 (br_f a4 (br_f b0 (br_t b4 (br_t e (br_f a0 (br_f a4 (br_f b0 (br_t b4 (br_t e ⟨rfl, R⟩)))))))))
    have hij : i ≠ j := fun z => e (congrArg nI z)
    have pi := gc_in (show i < 5 by omega)
    have pj := gc_in (show j < 5 by omega)
    obtain ⟨r, adj', hs', hX, hY⟩ := gc_edge col seen (gc_cnt seen 5) hs (show i < 5 by omega) (show j < 5 by omega) hij
    have R' : i_Rel (k + 3) (adj', col) (gc_cnt seen 5, adj', col, seen) := ⟨adj', col, seen, rfl, rfl, hs', hc, hn⟩
    by_cases z : col (nI i).toNatClampNeg < 0
    · exact br_f a0 (br_f a4 (br_f b0 (br_t b4 (br_f e ⟨pi, br_t z (hX _ (br_f a0 (br_f a4 (br_f b0 (br_t b4 (br_f e ⟨pi, br_t z (hY _ ⟨rfl, R'⟩)⟩))))))⟩))))
    · by_cases q : col (nI j).toNatClampNeg = col (nI i).toNatClampNeg
      · exact br_f a0 (br_f a4 (br_f b0 (br_t b4 (br_f e ⟨pi, br_f z ⟨pj, pi, br_t q (br_f a0 (br_f a4 (br_f b0 (br_t b4 (br_f e ⟨pi, br_f z ⟨pi, pj, br_t q.symm ⟨rfl, R⟩⟩⟩)))))⟩⟩))))
      · exact br_f a0 (br_f a4 (br_f b0 (br_t b4 (br_f e ⟨pi, br_f z ⟨pj, pi, br_f q (hX _ (br_f a0 (br_f a4 (br_f b0 (br_t b4 (br_f e ⟨pi, br_f z ⟨pi, pj, br_f (fun y => q y.symm) (hY _ ⟨rfl, R'⟩)⟩⟩))))))⟩⟩))))
  · exact br_f a0 (br_f a4 (br_f b0 (br_f b4 (br_f a0 (br_f a4 (br_f b0 (br_f b4 ⟨rfl, R⟩)))))))
theorem i_vc_paint {k : Nat} {u : SX} {v : SY} (I : i_Rel k u v) (hk : k + 3 ≤ 1536) (v1 : Int32) : wpX_paint (fun r u' => wpY_paint (fun r' v' => r' = r ∧ i_Rel (k + 3) u' v') v v1) u v1 := by
  obtain ⟨adj, col, seen, rfl, rfl, hs, hc, hn⟩ := I
  have R : i_Rel (k + 3) (adj, col) (gc_cnt seen 5, adj, col, seen) := ⟨adj, col, seen, rfl, rfl, hs, hc, hn⟩
  by_cases a0 : v1 < 0
  · exact br_t a0 (br_t a0 ⟨rfl, R⟩)
  by_cases a4 : v1 ≤ 4
  · obtain ⟨i, hi, rfl⟩ := nI_of2 (M := 4) (n := 4) (by decide) a0 a4
    have hi5 : i < 5 := by omega
    have pi := gc_in hi5
    by_cases z : col (nI i).toNatClampNeg < 0
    · have z' : col i < 0 := by rw [gc_cl hi5] at z; exact z
      obtain ⟨m, hX1, hY1⟩ := gc_p27 adj col seen (gc_cnt seen 5) hi5 5 0 rfl 0
      obtain ⟨c, hc5, hX2, hY2⟩ := gc_p75 adj col seen (gc_cnt seen 5) (nI i) m 4 0 rfl
      obtain ⟨col', seen', hc', hn', hX3, hY3⟩ := gc_p94 adj hc hn hi5 hc5 z'
      have R' : i_Rel (k + 3) (adj, col') (gc_cnt seen' 5, adj, col', seen') := ⟨adj, col', seen', rfl, rfl, hs, hc', hn'⟩
      rw [nI_0] at hX1 hY1 hX2 hY2
      exact br_f a0 (br_t a4 ⟨pi, br_t z ⟨_, hX1 _ ⟨_, hX2 _ (hX3 _ (br_f a0 (br_t a4 ⟨pi, br_t z ⟨_, hY1 _ ⟨_, hY2 _ (hY3 _ ⟨rfl, R'⟩)⟩⟩⟩)))⟩⟩⟩)
    · exact br_f a0 (br_t a4 ⟨pi, br_f z (br_f a0 (br_t a4 ⟨pi, br_f z ⟨rfl, R⟩⟩))⟩)
  · exact br_f a0 (br_f a4 (br_f a0 (br_f a4 ⟨rfl, R⟩)))
theorem i_vc_colourOf {k : Nat} {u : SX} {v : SY} (I : i_Rel k u v) (hk : k + 3 ≤ 1536) (v1 : Int32) : wpX_colourOf (fun r => wpY_colourOf (fun r' => r' = r ∧ i_Rel (k + 3) u v) v v1) u v1 := by
  obtain ⟨adj, col, seen, rfl, rfl, hs, hc, hn⟩ := I
  have R : i_Rel (k + 3) (adj, col) (gc_cnt seen 5, adj, col, seen) := ⟨adj, col, seen, rfl, rfl, hs, hc, hn⟩
  by_cases a0 : v1 < 0
  · exact br_t a0 (br_t a0 ⟨rfl, R⟩)
  by_cases a4 : v1 ≤ 4
  · obtain ⟨i, hi, rfl⟩ := nI_of2 (M := 4) (n := 4) (by decide) a0 a4
    have hi5 : i < 5 := by omega
    have pi := gc_in hi5
    rcases hc i hi5 with e | ⟨c, hc5, e⟩
    · have e' : col (nI i).toNatClampNeg = -1 := by rw [gc_cl hi5]; exact e
      have z : ¬ 0 ≤ col (nI i).toNatClampNeg := by rw [e']; decide
      exact br_f a0 (br_t a4 ⟨pi, br_f z (br_f a0 (br_t a4 ⟨pi, e', R⟩))⟩)
    · have z : 0 ≤ col (nI i).toNatClampNeg := by rw [gc_cl hi5, e]; exact gc_n0 c hc5
      exact br_f a0 (br_t a4 ⟨pi, br_t z ⟨pi, br_f a0 (br_t a4 ⟨pi, rfl, R⟩)⟩⟩)
  · exact br_f a0 (br_f a4 (br_f a0 (br_f a4 ⟨rfl, R⟩)))
theorem i_vc_used {k : Nat} {u : SX} {v : SY} (I : i_Rel k u v) (hk : k + 3 ≤ 1536) : wpX_used (fun r => wpY_used (fun r' => r' = r ∧ i_Rel (k + 3) u v) v) u := by
  obtain ⟨adj, col, seen, rfl, rfl, hs, hc, hn⟩ := I
  have R : i_Rel (k + 3) (adj, col) (gc_cnt seen 5, adj, col, seen) := ⟨adj, col, seen, rfl, rfl, hs, hc, hn⟩
  obtain ⟨m, hm, h4⟩ := gc_u4 adj hc 5 0 rfl 0 (fun c hc5 => ⟨fun _ i hi => absurd hi (Nat.not_lt_zero i), fun _ => gc_zero32 c (by omega)⟩)
  have h39 := gc_u39 adj col (fun c hc5 => (hm c hc5).trans (hn c hc5).symm) (fun r => wpY_used (fun r' => r' = r ∧ i_Rel (k + 3) (adj, col) (gc_cnt seen 5, adj, col, seen)) (gc_cnt seen 5, adj, col, seen)) ⟨rfl, R⟩ 5 0 rfl
  exact ⟨_, h4 _ ⟨_, h39⟩⟩
end
