/-! CALLS, 3: a call runs by the callee's contract -/
set_option maxRecDepth 100000
def ai_wsk (k : Nat) : List Cond := if ai_mH k = [] then ws_ (ai_mY k) (ai_mC k) (ai_mL k) (ai_mR k) else wsW_ (ai_mY k) (ai_mC k) (ai_mL k) (ai_mR k) (ai_mH k)
def ai_Pc (G : ai_G) (D : va_G) (dA : Nat → ClassId) (B : Nat) (H0 : Heap) (as : List Value) (h : ai_H) : Array Value → State → Prop := va_Pc as (fun U => ai_K G D dA B H0 U ∧ ai_rel G D dA B H0 h U.heap)
section AIC
variable {p : Program} {l : Launch} {e : Env} {R : Room} {s : State} {m : MethodId} {args : Array Value} {below : List Frame} {meth : Method} {c : Code} {H : Heap} {locs : List Loc} {cells slots : Nat}
variable {G : ai_G} {D : va_G} {dA : Nat → ClassId} {B : Nat} {H0 : Heap} {k pc pc' : Nat} {L : ai_L} {ls : Array Slot} {st as rest : List Value} {h : ai_H} {rm : Room} {Qc : Array Value → State → Outcome → State → Prop} {XC : Addr → String → State → State → Prop} {mc ms id : Nat} {free : Addr → Prop}
theorem ai_Pc.blind {as : List Value} : FrameBlind (ai_Pc G D dA B H0 as h) := by
  intro a U g mk q
  obtain ⟨q1, q2, q3⟩ := q
  exact ⟨q1, ai_K.same (s := U) (U := U.calling g mk a) rfl q2, q3⟩
theorem ai_code (h0 : 0 < id) (h1 : id < ai_nm) (hH : ai_mH id = []) : Cond.code (ai_mY id) (ai_mC id) (ai_mL id) (ai_mR id) ∈ lw_all := by
  obtain ⟨-, -, h2⟩ := ai_mk id h0 h1
  rcases h2 with h2 | h2
  · exact h2.2
  · exact absurd hH h2.1
theorem ai_codeW (h0 : 0 < id) (h1 : id < ai_nm) (hH : ai_mH id ≠ []) : Cond.codeWith (ai_mY id) (ai_mC id) (ai_mL id) (ai_mR id) (ai_mH id) ∈ lw_all := by
  obtain ⟨-, -, h2⟩ := ai_mk id h0 h1
  rcases h2 with h2 | h2
  · exact absurd h2.1 hH
  · exact h2.2
theorem ai_x_call {i kd ln : Nat} {ig : Instr} (X : ai_X G D dA B H0 p s m args meth c k) (hsz : ls.size = ai_mL k) (r : ai_rel G D dA B H0 h H) (hd : decode (ai_mC k) pc = .ok (ig, ln))
    (hig : (kd = 0 ∧ ig = .invokestatic i ∧ ln = 3) ∨ (kd = 1 ∧ ig = .invokespecial i ∧ ln = 3) ∨ (kd = 2 ∧ ig = .invokevirtual i ∧ ln = 3) ∨ (kd = 3 ∧ (∃ n, ig = .invokeinterface i n) ∧ ln = 5))
    (he : ai_inv G (ai_mO k) i kd ln pc L st h = some (.inr (.inl (id, as, pc', rest))))
    (hM : ai_Met l (ai_mY id) (ai_wsk id) rm (ai_Pc G D dA B H0 as h) Qc XC mc ms free) (hrc : rm.cells = mc) (hrs : rm.slots = ms) (hR : rm.frames + 1 ≤ R.frames ∧ 8 + (ai_mL id + 11) + rm.locals ≤ R.locals) (hnt : ai_thr id = false → ∀ q E st t, ¬ XC q E st t) (hf : cells + mc ≤ R.cells ∧ slots + ms ≤ R.slots) :
    ai_Run ln p l e R s m args below meth c H locs cells slots mc ms (F0 m pc ls st) rest (Qc as.toArray) XC free := by
  obtain ⟨hx, hb, hml, hown, hts, hK, hret, hlocks, hini⟩ := X
  obtain ⟨n9, cI, hn9, hlen, hst, -, hwt, hCK, hrcv⟩ := ai_inv_ok he
  obtain ⟨⟨i0, i1⟩, hMH, n, hpn, hkind⟩ := hCK
  have S : CallFix p m c (ai_mC k) (ai_mL k) s args lw_all (ai_cn (ai_mO k)) := ⟨hx, hb, hml, hown, hts⟩
  have hPc : ∀ U : State, U.heap = H → s.WarmedH U.vm → ai_Pc G D dA B H0 as h as.toArray U := fun U hU hW => ⟨rfl, hK.warm hW, by rw [hU]; exact r⟩
  have hwt9 : 2 * (F0 m pc ls st).monitorRoom + (rest.map fun v => v.category).sum ≤ 8 := by show 2 * 0 + ai_wt rest ≤ 8; omega
  subst hst
  rcases hkind with ⟨rfl, ha, ht, hH, h1, h2, h3⟩ | ⟨rfl, ha, hr0, ht, hH, h1, h2, h3, h4⟩ | ⟨rfl, ha, hk2⟩ | ⟨rfl, ha, ht, hH, hkF⟩
  · -- static
    rcases hig with ⟨-, rfl, rfl⟩ | ⟨z, -⟩ | ⟨z, -⟩ | ⟨z, -⟩ <;> first | (exact absurd z (by decide)) | skip
    have hws : ai_wsk id = ws_ (ai_mY id) (ai_mC id) (ai_mL id) (ai_mR id) := if_pos hH
    rw [hws] at hM
    have hM := hM.plain (hnt ht)
    have hnn : as.length = n := by rw [hlen]; exact Option.some.inj (hn9.symm.trans ha)
    rcases h3 with h3 | ⟨host, h3⟩
    · exact ai_Run.of3 (vx_runS S hM (va_cwS n hts (lw_S h3 h1 h2 (ai_code i0 i1 hH)) rfl hrc hrs ⟨hMH.1, hMH.2, hpn⟩ hR) ⟨ai_Pc.blind, hPc⟩ rfl hnn hsz rfl hwt9 hd hf)
    · exact ai_Run.of3 (vx_runSN S hM ⟨va_cnB n hts (lw_meth (ai_code i0 i1 hH)) rfl hrc hrs (hK.2.1 _ h3) (hts _ h2) ⟨hMH.1, hMH.2, hpn⟩ hR, hts _ h1, trivial⟩ ⟨ai_Pc.blind, hPc⟩ rfl hnn hsz rfl hwt9 hd hf)
  · -- a constructor
    rcases hig with ⟨z, -⟩ | ⟨-, rfl, rfl⟩ | ⟨z, -⟩ | ⟨z, -⟩ <;> first | (exact absurd z (by decide)) | skip
    have hws : ai_wsk id = ws_ (ai_mY id) (ai_mC id) (ai_mL id) none := by rw [← hr0]; exact if_pos hH
    rw [hws] at hM
    have hM := hM.plain (hnt ht)
    have hcode : Cond.code (ai_mY id) (ai_mC id) (ai_mL id) none ∈ lw_all := by rw [← hr0]; exact ai_code i0 i1 hH
    have hnn : as.length = n + 1 := by rw [hlen]; exact Option.some.inj (hn9.symm.trans ha)
    obtain ⟨a, tl, rfl, -⟩ := hrcv (by decide)
    have hnn : tl.length = n := by simpa using hnn
    have hstk : (F0 m pc ls ((Value.ref a :: tl).reverse ++ rest)).stack = tl.reverse ++ .ref a :: rest := by simp
    rcases h4 with h4 | ⟨host, h4⟩
    · exact ai_Run.of3 (vx_runI S hM (cwI n hts (lw_meth hcode) rfl hrc hrs (hts _ h3) (hts _ h4) (hts _ h2) h1 ⟨hMH.1, hMH.2, hpn⟩ hR) ⟨ai_Pc.blind, hPc⟩ rfl hnn hsz hstk hwt9 hd hf)
    · exact ai_Run.of3 (vx_runIN S hM ⟨va_cnB n hts (lw_meth hcode) rfl hrc hrs (hK.2.1 _ h4) (hts _ h3) ⟨hMH.1, hMH.2, hpn⟩ hR, h1, hts _ h2⟩ ⟨ai_Pc.blind, hPc⟩ rfl hnn hsz hstk hwt9 hd hf)
  · -- through an object
    rcases hig with ⟨z, -⟩ | ⟨z, -⟩ | ⟨-, rfl, rfl⟩ | ⟨z, -⟩ <;> first | (exact absurd z (by decide)) | skip
    have hnn : as.length = n + 1 := by rw [hlen]; exact Option.some.inj (hn9.symm.trans ha)
    obtain ⟨a, tl, rfl, hrd⟩ := hrcv (by decide)
    obtain ⟨f, hrd⟩ := hrd (by decide)
    have hnn : tl.length = n := by simpa using hnn
    have hstk : (F0 m pc ls ((Value.ref a :: tl).reverse ++ rest)).stack = tl.reverse ++ .ref a :: rest := by simp
    have hrv := ai_recv hK r hrd
    rcases hk2 with ⟨e1, h1, h2, h3, h4⟩ | ⟨ht, hH, hk3⟩
    · by_cases hH : ai_mH id = []
      · have hws : ai_wsk id = ws_ (ai_mY id) (ai_mC id) (ai_mL id) (ai_mR id) := if_pos hH
        rw [hws] at hM
        exact ai_runV S hM (cwV n hts (lw_V h1 h2 h3 h4 (ai_code i0 i1 hH)) rfl hrc hrs ⟨e1, hMH.1, hMH.2, hpn⟩ hR) ⟨ai_Pc.blind, hrv, hPc⟩ rfl hnn hsz hstk hwt9 hd hf
      · have hws : ai_wsk id = wsW_ (ai_mY id) (ai_mC id) (ai_mL id) (ai_mR id) (ai_mH id) := if_neg hH
        rw [hws] at hM
        have hM := hM.plain (hnt (ai_mH_thr id i1 hH))
        exact ai_Run.of3 (vx_runVX S hM (vx_cwVW n hts (lw_VW h1 h2 h3 h4 (ai_codeW i0 i1 hH)) rfl hrc hrs ⟨e1, hMH.1, hMH.2, hpn⟩ hR) ⟨ai_Pc.blind, hrv, hPc⟩ rfl hnn hsz hstk hwt9 hd hf)
    · have hws : ai_wsk id = ws_ (ai_mY id) (ai_mC id) (ai_mL id) (ai_mR id) := if_pos hH
      rw [hws] at hM
      have hM := hM.plain (hnt ht)
      rcases hk3 with ⟨host, h1, h2, h3, h4⟩ | ⟨owner, x, h1, h2, h3, h4, h5, h6, h7, h8⟩
      · exact ai_Run.of3 (vx_runVN S hM ⟨va_cnB n hts (lw_meth (ai_code i0 i1 hH)) rfl hrc hrs (hK.2.1 _ h1) (hts _ h4) ⟨hMH.1, hMH.2, hpn⟩ hR, hts _ h2, hts _ h3⟩ ⟨ai_Pc.blind, hrv, hPc⟩ rfl hnn hsz hstk hwt9 hd hf)
      · have hG : GoodIn lw_all (va_wsU (ai_cn (ai_mO k)) i (ai_cn cI) owner x (ai_mY id) (ws_ (ai_mY id) (ai_mC id) (ai_mL id) (ai_mR id))) := by
          refine lw_app ?_ (lw_meth (ai_code i0 i1 hH))
          intro w hw
          simp only [List.mem_cons, List.not_mem_nil, or_false] at hw
          rcases hw with e | e | e | e | e
          · rw [e]; exact h1
          · rw [e]; exact h2
          · rw [e]; exact h3
          · rw [e]; exact h4
          · rw [e]; exact h5
        rcases h6 with h6 | h6
        · exact ai_Run.of3 (vx_runU S hM (va_cwU n hts hG rfl hrc hrs h6 ⟨h7.1, h7.2, h8⟩ hR) ⟨ai_Pc.blind, hrv, hPc⟩ rfl hnn hsz hstk hwt9 hd hf)
        · exact ai_Run.of3 (vx_runU S hM (va_cwA n hts hG rfl hrc hrs (hK.2.1 _ h6) ⟨h7.1, h7.2, h8⟩ hR) ⟨ai_Pc.blind, hrv, hPc⟩ rfl hnn hsz hstk hwt9 hd hf)
  · -- through an interface
    rcases hig with ⟨z, -⟩ | ⟨z, -⟩ | ⟨z, -⟩ | ⟨-, ⟨cnt, rfl⟩, rfl⟩ <;> first | (exact absurd z (by decide)) | skip
    have hnn : as.length = n + 1 := by rw [hlen]; exact Option.some.inj (hn9.symm.trans ha)
    obtain ⟨a, tl, rfl, hrd⟩ := hrcv (by decide)
    obtain ⟨f, hrd⟩ := hrd (by decide)
    have hnn : tl.length = n := by simpa using hnn
    have hstk : (F0 m pc ls ((Value.ref a :: tl).reverse ++ rest)).stack = tl.reverse ++ .ref a :: rest := by simp
    have hrv := ai_recv hK r hrd
    have hws : ai_wsk id = ws_ (ai_mY id) (ai_mC id) (ai_mL id) (ai_mR id) := if_pos hH
    rw [hws] at hM
    have hM := hM.plain (hnt ht)
    obtain ⟨rfl, x, hxy, h1, h2, h3, h4, h5, h6⟩ := hkF
    have hG : GoodIn lw_all (va_wsF (ai_cn (ai_mO k)) i (ai_cn 17) x (ai_mY id) (ws_ (ai_mY id) (ai_mC id) (ai_mL id) (ai_mR id))) := by
      refine lw_app ?_ (lw_meth (ai_code i0 i1 hH))
      intro w hw
      simp only [List.mem_cons, List.not_mem_nil, or_false] at hw
      rcases hw with e | e | e | e
      · rw [e]; exact h1
      · rw [e]; exact h2
      · rw [e]; exact h3
      · rw [e]; exact h4
    have hF : va_Fw (ai_cn 17) x (ai_mY id) s := by
      rcases hxy with ⟨rfl, e⟩ | ⟨rfl, e⟩
      · rw [e]; exact hK.2.2.2.2.1
      · rw [e]; exact hK.2.2.2.2.2.1
    have hat : ClassAt s (ai_cn 17) (D.1 17) := (hK.1.1 17 _ rfl).2
    exact ai_Run.of5 (vx_runF hat S hM (va_cwF n hts hG rfl hrc hrs hF ⟨h5.1, h5.2, h6⟩ hR) ⟨ai_Pc.blind, hrv, hPc⟩ rfl hnn hsz hstk hwt9 hd hf)
end AIC
