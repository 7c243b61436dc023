/-! ===== what readers read behind writers ===== -/
theorem wr_qu {s : sSt} {v : Nat → sQu} : (s.w_qu v).qu = v := rfl
theorem wr_ex_qu {s : sSt} {v : Nat → sQu} : (s.w_qu v).ex = s.ex := rfl
theorem wr_bi_qu {s : sSt} {v : Nat → sQu} : (s.w_qu v).bi = s.bi := rfl
theorem wr_co_qu {s : sSt} {v : Nat → sQu} : (s.w_qu v).co = s.co := rfl
theorem wr_en_qu {s : sSt} {v : Nat → sQu} : (s.w_qu v).en = s.en := rfl
theorem wr_se_qu {s : sSt} {v : Nat → sQu} : (s.w_qu v).se = s.se := rfl
theorem wr_cn_qu {s : sSt} {v : Nat → sQu} : (s.w_qu v).cn = s.cn := rfl
theorem wr_ch_qu {s : sSt} {v : Nat → sQu} : (s.w_qu v).ch = s.ch := rfl
theorem wr_qs_qu {s : sSt} {v : Nat → sQu} : (s.w_qu v).qs = s.qs := rfl
theorem wr_es_qu {s : sSt} {v : Nat → sQu} : (s.w_qu v).es = s.es := rfl
theorem wr_bs_qu {s : sSt} {v : Nat → sQu} : (s.w_qu v).bs = s.bs := rfl
theorem wr_cs_qu {s : sSt} {v : Nat → sQu} : (s.w_qu v).cs = s.cs := rfl
theorem wr_dead_qu {s : sSt} {v : Nat → sQu} : (s.w_qu v).dead = s.dead := rfl
theorem wr_facts_qu {s : sSt} {v : Nat → sQu} : (s.w_qu v).facts = s.facts := rfl
theorem wr_sqs_qu {s : sSt} {v : Nat → sQu} : (s.w_qu v).sqs = s.sqs := rfl
theorem wr_ses_qu {s : sSt} {v : Nat → sQu} : (s.w_qu v).ses = s.ses := rfl
theorem wr_sbs_qu {s : sSt} {v : Nat → sQu} : (s.w_qu v).sbs = s.sbs := rfl
theorem wr_sen_qu {s : sSt} {v : Nat → sQu} : (s.w_qu v).sen = s.sen := rfl
theorem wr_messages_qu {s : sSt} {v : Nat → sQu} : (s.w_qu v).messages = s.messages := rfl
theorem wr_lastNum_qu {s : sSt} {v : Nat → sQu} : (s.w_qu v).lastNum = s.lastNum := rfl
theorem wr_gener_qu {s : sSt} {v : Nat → sQu} : (s.w_qu v).gener = s.gener := rfl
theorem wr_clock_qu {s : sSt} {v : Nat → sQu} : (s.w_qu v).clock = s.clock := rfl
theorem wr_deadOnes_qu {s : sSt} {v : Nat → sQu} : (s.w_qu v).deadOnes = s.deadOnes := rfl
theorem wr_crashes_qu {s : sSt} {v : Nat → sQu} : (s.w_qu v).crashes = s.crashes := rfl
theorem wr_tape_qu {s : sSt} {v : Nat → sQu} : (s.w_qu v).tape = s.tape := rfl
theorem wr_next_qu {s : sSt} {v : Nat → sQu} : (s.w_qu v).next = s.next := rfl
theorem wr_knd_qu {s : sSt} {v : Nat → sQu} : (s.w_qu v).knd = s.knd := rfl
theorem wr_qu_ex {s : sSt} {v : Nat → sEx} : (s.w_ex v).qu = s.qu := rfl
theorem wr_ex {s : sSt} {v : Nat → sEx} : (s.w_ex v).ex = v := rfl
theorem wr_bi_ex {s : sSt} {v : Nat → sEx} : (s.w_ex v).bi = s.bi := rfl
theorem wr_co_ex {s : sSt} {v : Nat → sEx} : (s.w_ex v).co = s.co := rfl
theorem wr_en_ex {s : sSt} {v : Nat → sEx} : (s.w_ex v).en = s.en := rfl
theorem wr_se_ex {s : sSt} {v : Nat → sEx} : (s.w_ex v).se = s.se := rfl
theorem wr_cn_ex {s : sSt} {v : Nat → sEx} : (s.w_ex v).cn = s.cn := rfl
theorem wr_ch_ex {s : sSt} {v : Nat → sEx} : (s.w_ex v).ch = s.ch := rfl
theorem wr_qs_ex {s : sSt} {v : Nat → sEx} : (s.w_ex v).qs = s.qs := rfl
theorem wr_es_ex {s : sSt} {v : Nat → sEx} : (s.w_ex v).es = s.es := rfl
theorem wr_bs_ex {s : sSt} {v : Nat → sEx} : (s.w_ex v).bs = s.bs := rfl
theorem wr_cs_ex {s : sSt} {v : Nat → sEx} : (s.w_ex v).cs = s.cs := rfl
theorem wr_dead_ex {s : sSt} {v : Nat → sEx} : (s.w_ex v).dead = s.dead := rfl
theorem wr_facts_ex {s : sSt} {v : Nat → sEx} : (s.w_ex v).facts = s.facts := rfl
theorem wr_sqs_ex {s : sSt} {v : Nat → sEx} : (s.w_ex v).sqs = s.sqs := rfl
theorem wr_ses_ex {s : sSt} {v : Nat → sEx} : (s.w_ex v).ses = s.ses := rfl
theorem wr_sbs_ex {s : sSt} {v : Nat → sEx} : (s.w_ex v).sbs = s.sbs := rfl
theorem wr_sen_ex {s : sSt} {v : Nat → sEx} : (s.w_ex v).sen = s.sen := rfl
theorem wr_messages_ex {s : sSt} {v : Nat → sEx} : (s.w_ex v).messages = s.messages := rfl
theorem wr_lastNum_ex {s : sSt} {v : Nat → sEx} : (s.w_ex v).lastNum = s.lastNum := rfl
theorem wr_gener_ex {s : sSt} {v : Nat → sEx} : (s.w_ex v).gener = s.gener := rfl
theorem wr_clock_ex {s : sSt} {v : Nat → sEx} : (s.w_ex v).clock = s.clock := rfl
theorem wr_deadOnes_ex {s : sSt} {v : Nat → sEx} : (s.w_ex v).deadOnes = s.deadOnes := rfl
theorem wr_crashes_ex {s : sSt} {v : Nat → sEx} : (s.w_ex v).crashes = s.crashes := rfl
theorem wr_tape_ex {s : sSt} {v : Nat → sEx} : (s.w_ex v).tape = s.tape := rfl
theorem wr_next_ex {s : sSt} {v : Nat → sEx} : (s.w_ex v).next = s.next := rfl
theorem wr_knd_ex {s : sSt} {v : Nat → sEx} : (s.w_ex v).knd = s.knd := rfl
theorem wr_qu_bi {s : sSt} {v : Nat → sBi} : (s.w_bi v).qu = s.qu := rfl
theorem wr_ex_bi {s : sSt} {v : Nat → sBi} : (s.w_bi v).ex = s.ex := rfl
theorem wr_bi {s : sSt} {v : Nat → sBi} : (s.w_bi v).bi = v := rfl
theorem wr_co_bi {s : sSt} {v : Nat → sBi} : (s.w_bi v).co = s.co := rfl
theorem wr_en_bi {s : sSt} {v : Nat → sBi} : (s.w_bi v).en = s.en := rfl
theorem wr_se_bi {s : sSt} {v : Nat → sBi} : (s.w_bi v).se = s.se := rfl
theorem wr_cn_bi {s : sSt} {v : Nat → sBi} : (s.w_bi v).cn = s.cn := rfl
theorem wr_ch_bi {s : sSt} {v : Nat → sBi} : (s.w_bi v).ch = s.ch := rfl
theorem wr_qs_bi {s : sSt} {v : Nat → sBi} : (s.w_bi v).qs = s.qs := rfl
theorem wr_es_bi {s : sSt} {v : Nat → sBi} : (s.w_bi v).es = s.es := rfl
theorem wr_bs_bi {s : sSt} {v : Nat → sBi} : (s.w_bi v).bs = s.bs := rfl
theorem wr_cs_bi {s : sSt} {v : Nat → sBi} : (s.w_bi v).cs = s.cs := rfl
theorem wr_dead_bi {s : sSt} {v : Nat → sBi} : (s.w_bi v).dead = s.dead := rfl
theorem wr_facts_bi {s : sSt} {v : Nat → sBi} : (s.w_bi v).facts = s.facts := rfl
theorem wr_sqs_bi {s : sSt} {v : Nat → sBi} : (s.w_bi v).sqs = s.sqs := rfl
theorem wr_ses_bi {s : sSt} {v : Nat → sBi} : (s.w_bi v).ses = s.ses := rfl
theorem wr_sbs_bi {s : sSt} {v : Nat → sBi} : (s.w_bi v).sbs = s.sbs := rfl
theorem wr_sen_bi {s : sSt} {v : Nat → sBi} : (s.w_bi v).sen = s.sen := rfl
theorem wr_messages_bi {s : sSt} {v : Nat → sBi} : (s.w_bi v).messages = s.messages := rfl
theorem wr_lastNum_bi {s : sSt} {v : Nat → sBi} : (s.w_bi v).lastNum = s.lastNum := rfl
theorem wr_gener_bi {s : sSt} {v : Nat → sBi} : (s.w_bi v).gener = s.gener := rfl
theorem wr_clock_bi {s : sSt} {v : Nat → sBi} : (s.w_bi v).clock = s.clock := rfl
theorem wr_deadOnes_bi {s : sSt} {v : Nat → sBi} : (s.w_bi v).deadOnes = s.deadOnes := rfl
theorem wr_crashes_bi {s : sSt} {v : Nat → sBi} : (s.w_bi v).crashes = s.crashes := rfl
theorem wr_tape_bi {s : sSt} {v : Nat → sBi} : (s.w_bi v).tape = s.tape := rfl
theorem wr_next_bi {s : sSt} {v : Nat → sBi} : (s.w_bi v).next = s.next := rfl
theorem wr_knd_bi {s : sSt} {v : Nat → sBi} : (s.w_bi v).knd = s.knd := rfl
theorem wr_qu_co {s : sSt} {v : Nat → sCo} : (s.w_co v).qu = s.qu := rfl
theorem wr_ex_co {s : sSt} {v : Nat → sCo} : (s.w_co v).ex = s.ex := rfl
theorem wr_bi_co {s : sSt} {v : Nat → sCo} : (s.w_co v).bi = s.bi := rfl
theorem wr_co {s : sSt} {v : Nat → sCo} : (s.w_co v).co = v := rfl
theorem wr_en_co {s : sSt} {v : Nat → sCo} : (s.w_co v).en = s.en := rfl
theorem wr_se_co {s : sSt} {v : Nat → sCo} : (s.w_co v).se = s.se := rfl
theorem wr_cn_co {s : sSt} {v : Nat → sCo} : (s.w_co v).cn = s.cn := rfl
theorem wr_ch_co {s : sSt} {v : Nat → sCo} : (s.w_co v).ch = s.ch := rfl
theorem wr_qs_co {s : sSt} {v : Nat → sCo} : (s.w_co v).qs = s.qs := rfl
theorem wr_es_co {s : sSt} {v : Nat → sCo} : (s.w_co v).es = s.es := rfl
theorem wr_bs_co {s : sSt} {v : Nat → sCo} : (s.w_co v).bs = s.bs := rfl
theorem wr_cs_co {s : sSt} {v : Nat → sCo} : (s.w_co v).cs = s.cs := rfl
theorem wr_dead_co {s : sSt} {v : Nat → sCo} : (s.w_co v).dead = s.dead := rfl
theorem wr_facts_co {s : sSt} {v : Nat → sCo} : (s.w_co v).facts = s.facts := rfl
theorem wr_sqs_co {s : sSt} {v : Nat → sCo} : (s.w_co v).sqs = s.sqs := rfl
theorem wr_ses_co {s : sSt} {v : Nat → sCo} : (s.w_co v).ses = s.ses := rfl
theorem wr_sbs_co {s : sSt} {v : Nat → sCo} : (s.w_co v).sbs = s.sbs := rfl
theorem wr_sen_co {s : sSt} {v : Nat → sCo} : (s.w_co v).sen = s.sen := rfl
theorem wr_messages_co {s : sSt} {v : Nat → sCo} : (s.w_co v).messages = s.messages := rfl
theorem wr_lastNum_co {s : sSt} {v : Nat → sCo} : (s.w_co v).lastNum = s.lastNum := rfl
theorem wr_gener_co {s : sSt} {v : Nat → sCo} : (s.w_co v).gener = s.gener := rfl
theorem wr_clock_co {s : sSt} {v : Nat → sCo} : (s.w_co v).clock = s.clock := rfl
theorem wr_deadOnes_co {s : sSt} {v : Nat → sCo} : (s.w_co v).deadOnes = s.deadOnes := rfl
theorem wr_crashes_co {s : sSt} {v : Nat → sCo} : (s.w_co v).crashes = s.crashes := rfl
theorem wr_tape_co {s : sSt} {v : Nat → sCo} : (s.w_co v).tape = s.tape := rfl
theorem wr_next_co {s : sSt} {v : Nat → sCo} : (s.w_co v).next = s.next := rfl
theorem wr_knd_co {s : sSt} {v : Nat → sCo} : (s.w_co v).knd = s.knd := rfl
theorem wr_qu_en {s : sSt} {v : Nat → sEn} : (s.w_en v).qu = s.qu := rfl
theorem wr_ex_en {s : sSt} {v : Nat → sEn} : (s.w_en v).ex = s.ex := rfl
theorem wr_bi_en {s : sSt} {v : Nat → sEn} : (s.w_en v).bi = s.bi := rfl
theorem wr_co_en {s : sSt} {v : Nat → sEn} : (s.w_en v).co = s.co := rfl
theorem wr_en {s : sSt} {v : Nat → sEn} : (s.w_en v).en = v := rfl
theorem wr_se_en {s : sSt} {v : Nat → sEn} : (s.w_en v).se = s.se := rfl
theorem wr_cn_en {s : sSt} {v : Nat → sEn} : (s.w_en v).cn = s.cn := rfl
theorem wr_ch_en {s : sSt} {v : Nat → sEn} : (s.w_en v).ch = s.ch := rfl
theorem wr_qs_en {s : sSt} {v : Nat → sEn} : (s.w_en v).qs = s.qs := rfl
theorem wr_es_en {s : sSt} {v : Nat → sEn} : (s.w_en v).es = s.es := rfl
theorem wr_bs_en {s : sSt} {v : Nat → sEn} : (s.w_en v).bs = s.bs := rfl
theorem wr_cs_en {s : sSt} {v : Nat → sEn} : (s.w_en v).cs = s.cs := rfl
theorem wr_dead_en {s : sSt} {v : Nat → sEn} : (s.w_en v).dead = s.dead := rfl
theorem wr_facts_en {s : sSt} {v : Nat → sEn} : (s.w_en v).facts = s.facts := rfl
theorem wr_sqs_en {s : sSt} {v : Nat → sEn} : (s.w_en v).sqs = s.sqs := rfl
theorem wr_ses_en {s : sSt} {v : Nat → sEn} : (s.w_en v).ses = s.ses := rfl
theorem wr_sbs_en {s : sSt} {v : Nat → sEn} : (s.w_en v).sbs = s.sbs := rfl
theorem wr_sen_en {s : sSt} {v : Nat → sEn} : (s.w_en v).sen = s.sen := rfl
theorem wr_messages_en {s : sSt} {v : Nat → sEn} : (s.w_en v).messages = s.messages := rfl
theorem wr_lastNum_en {s : sSt} {v : Nat → sEn} : (s.w_en v).lastNum = s.lastNum := rfl
theorem wr_gener_en {s : sSt} {v : Nat → sEn} : (s.w_en v).gener = s.gener := rfl
theorem wr_clock_en {s : sSt} {v : Nat → sEn} : (s.w_en v).clock = s.clock := rfl
theorem wr_deadOnes_en {s : sSt} {v : Nat → sEn} : (s.w_en v).deadOnes = s.deadOnes := rfl
theorem wr_crashes_en {s : sSt} {v : Nat → sEn} : (s.w_en v).crashes = s.crashes := rfl
theorem wr_tape_en {s : sSt} {v : Nat → sEn} : (s.w_en v).tape = s.tape := rfl
theorem wr_next_en {s : sSt} {v : Nat → sEn} : (s.w_en v).next = s.next := rfl
theorem wr_knd_en {s : sSt} {v : Nat → sEn} : (s.w_en v).knd = s.knd := rfl
theorem wr_qu_se {s : sSt} {v : Nat → sSe} : (s.w_se v).qu = s.qu := rfl
theorem wr_ex_se {s : sSt} {v : Nat → sSe} : (s.w_se v).ex = s.ex := rfl
theorem wr_bi_se {s : sSt} {v : Nat → sSe} : (s.w_se v).bi = s.bi := rfl
theorem wr_co_se {s : sSt} {v : Nat → sSe} : (s.w_se v).co = s.co := rfl
theorem wr_en_se {s : sSt} {v : Nat → sSe} : (s.w_se v).en = s.en := rfl
theorem wr_se {s : sSt} {v : Nat → sSe} : (s.w_se v).se = v := rfl
theorem wr_cn_se {s : sSt} {v : Nat → sSe} : (s.w_se v).cn = s.cn := rfl
theorem wr_ch_se {s : sSt} {v : Nat → sSe} : (s.w_se v).ch = s.ch := rfl
theorem wr_qs_se {s : sSt} {v : Nat → sSe} : (s.w_se v).qs = s.qs := rfl
theorem wr_es_se {s : sSt} {v : Nat → sSe} : (s.w_se v).es = s.es := rfl
theorem wr_bs_se {s : sSt} {v : Nat → sSe} : (s.w_se v).bs = s.bs := rfl
theorem wr_cs_se {s : sSt} {v : Nat → sSe} : (s.w_se v).cs = s.cs := rfl
theorem wr_dead_se {s : sSt} {v : Nat → sSe} : (s.w_se v).dead = s.dead := rfl
theorem wr_facts_se {s : sSt} {v : Nat → sSe} : (s.w_se v).facts = s.facts := rfl
theorem wr_sqs_se {s : sSt} {v : Nat → sSe} : (s.w_se v).sqs = s.sqs := rfl
theorem wr_ses_se {s : sSt} {v : Nat → sSe} : (s.w_se v).ses = s.ses := rfl
theorem wr_sbs_se {s : sSt} {v : Nat → sSe} : (s.w_se v).sbs = s.sbs := rfl
theorem wr_sen_se {s : sSt} {v : Nat → sSe} : (s.w_se v).sen = s.sen := rfl
theorem wr_messages_se {s : sSt} {v : Nat → sSe} : (s.w_se v).messages = s.messages := rfl
theorem wr_lastNum_se {s : sSt} {v : Nat → sSe} : (s.w_se v).lastNum = s.lastNum := rfl
theorem wr_gener_se {s : sSt} {v : Nat → sSe} : (s.w_se v).gener = s.gener := rfl
theorem wr_clock_se {s : sSt} {v : Nat → sSe} : (s.w_se v).clock = s.clock := rfl
theorem wr_deadOnes_se {s : sSt} {v : Nat → sSe} : (s.w_se v).deadOnes = s.deadOnes := rfl
theorem wr_crashes_se {s : sSt} {v : Nat → sSe} : (s.w_se v).crashes = s.crashes := rfl
theorem wr_tape_se {s : sSt} {v : Nat → sSe} : (s.w_se v).tape = s.tape := rfl
theorem wr_next_se {s : sSt} {v : Nat → sSe} : (s.w_se v).next = s.next := rfl
theorem wr_knd_se {s : sSt} {v : Nat → sSe} : (s.w_se v).knd = s.knd := rfl
theorem wr_qu_cn {s : sSt} {v : Nat → sCn} : (s.w_cn v).qu = s.qu := rfl
theorem wr_ex_cn {s : sSt} {v : Nat → sCn} : (s.w_cn v).ex = s.ex := rfl
theorem wr_bi_cn {s : sSt} {v : Nat → sCn} : (s.w_cn v).bi = s.bi := rfl
theorem wr_co_cn {s : sSt} {v : Nat → sCn} : (s.w_cn v).co = s.co := rfl
theorem wr_en_cn {s : sSt} {v : Nat → sCn} : (s.w_cn v).en = s.en := rfl
theorem wr_se_cn {s : sSt} {v : Nat → sCn} : (s.w_cn v).se = s.se := rfl
theorem wr_cn {s : sSt} {v : Nat → sCn} : (s.w_cn v).cn = v := rfl
theorem wr_ch_cn {s : sSt} {v : Nat → sCn} : (s.w_cn v).ch = s.ch := rfl
theorem wr_qs_cn {s : sSt} {v : Nat → sCn} : (s.w_cn v).qs = s.qs := rfl
theorem wr_es_cn {s : sSt} {v : Nat → sCn} : (s.w_cn v).es = s.es := rfl
theorem wr_bs_cn {s : sSt} {v : Nat → sCn} : (s.w_cn v).bs = s.bs := rfl
theorem wr_cs_cn {s : sSt} {v : Nat → sCn} : (s.w_cn v).cs = s.cs := rfl
theorem wr_dead_cn {s : sSt} {v : Nat → sCn} : (s.w_cn v).dead = s.dead := rfl
theorem wr_facts_cn {s : sSt} {v : Nat → sCn} : (s.w_cn v).facts = s.facts := rfl
theorem wr_sqs_cn {s : sSt} {v : Nat → sCn} : (s.w_cn v).sqs = s.sqs := rfl
theorem wr_ses_cn {s : sSt} {v : Nat → sCn} : (s.w_cn v).ses = s.ses := rfl
theorem wr_sbs_cn {s : sSt} {v : Nat → sCn} : (s.w_cn v).sbs = s.sbs := rfl
theorem wr_sen_cn {s : sSt} {v : Nat → sCn} : (s.w_cn v).sen = s.sen := rfl
theorem wr_messages_cn {s : sSt} {v : Nat → sCn} : (s.w_cn v).messages = s.messages := rfl
theorem wr_lastNum_cn {s : sSt} {v : Nat → sCn} : (s.w_cn v).lastNum = s.lastNum := rfl
theorem wr_gener_cn {s : sSt} {v : Nat → sCn} : (s.w_cn v).gener = s.gener := rfl
theorem wr_clock_cn {s : sSt} {v : Nat → sCn} : (s.w_cn v).clock = s.clock := rfl
theorem wr_deadOnes_cn {s : sSt} {v : Nat → sCn} : (s.w_cn v).deadOnes = s.deadOnes := rfl
theorem wr_crashes_cn {s : sSt} {v : Nat → sCn} : (s.w_cn v).crashes = s.crashes := rfl
theorem wr_tape_cn {s : sSt} {v : Nat → sCn} : (s.w_cn v).tape = s.tape := rfl
theorem wr_next_cn {s : sSt} {v : Nat → sCn} : (s.w_cn v).next = s.next := rfl
theorem wr_knd_cn {s : sSt} {v : Nat → sCn} : (s.w_cn v).knd = s.knd := rfl
theorem wr_qu_ch {s : sSt} {v : Nat → sCh} : (s.w_ch v).qu = s.qu := rfl
theorem wr_ex_ch {s : sSt} {v : Nat → sCh} : (s.w_ch v).ex = s.ex := rfl
theorem wr_bi_ch {s : sSt} {v : Nat → sCh} : (s.w_ch v).bi = s.bi := rfl
theorem wr_co_ch {s : sSt} {v : Nat → sCh} : (s.w_ch v).co = s.co := rfl
theorem wr_en_ch {s : sSt} {v : Nat → sCh} : (s.w_ch v).en = s.en := rfl
theorem wr_se_ch {s : sSt} {v : Nat → sCh} : (s.w_ch v).se = s.se := rfl
theorem wr_cn_ch {s : sSt} {v : Nat → sCh} : (s.w_ch v).cn = s.cn := rfl
theorem wr_ch {s : sSt} {v : Nat → sCh} : (s.w_ch v).ch = v := rfl
theorem wr_qs_ch {s : sSt} {v : Nat → sCh} : (s.w_ch v).qs = s.qs := rfl
theorem wr_es_ch {s : sSt} {v : Nat → sCh} : (s.w_ch v).es = s.es := rfl
theorem wr_bs_ch {s : sSt} {v : Nat → sCh} : (s.w_ch v).bs = s.bs := rfl
theorem wr_cs_ch {s : sSt} {v : Nat → sCh} : (s.w_ch v).cs = s.cs := rfl
theorem wr_dead_ch {s : sSt} {v : Nat → sCh} : (s.w_ch v).dead = s.dead := rfl
theorem wr_facts_ch {s : sSt} {v : Nat → sCh} : (s.w_ch v).facts = s.facts := rfl
theorem wr_sqs_ch {s : sSt} {v : Nat → sCh} : (s.w_ch v).sqs = s.sqs := rfl
theorem wr_ses_ch {s : sSt} {v : Nat → sCh} : (s.w_ch v).ses = s.ses := rfl
theorem wr_sbs_ch {s : sSt} {v : Nat → sCh} : (s.w_ch v).sbs = s.sbs := rfl
theorem wr_sen_ch {s : sSt} {v : Nat → sCh} : (s.w_ch v).sen = s.sen := rfl
theorem wr_messages_ch {s : sSt} {v : Nat → sCh} : (s.w_ch v).messages = s.messages := rfl
theorem wr_lastNum_ch {s : sSt} {v : Nat → sCh} : (s.w_ch v).lastNum = s.lastNum := rfl
theorem wr_gener_ch {s : sSt} {v : Nat → sCh} : (s.w_ch v).gener = s.gener := rfl
theorem wr_clock_ch {s : sSt} {v : Nat → sCh} : (s.w_ch v).clock = s.clock := rfl
theorem wr_deadOnes_ch {s : sSt} {v : Nat → sCh} : (s.w_ch v).deadOnes = s.deadOnes := rfl
theorem wr_crashes_ch {s : sSt} {v : Nat → sCh} : (s.w_ch v).crashes = s.crashes := rfl
theorem wr_tape_ch {s : sSt} {v : Nat → sCh} : (s.w_ch v).tape = s.tape := rfl
theorem wr_next_ch {s : sSt} {v : Nat → sCh} : (s.w_ch v).next = s.next := rfl
theorem wr_knd_ch {s : sSt} {v : Nat → sCh} : (s.w_ch v).knd = s.knd := rfl
theorem wr_qu_qs {s : sSt} {v : List Nat} : (s.w_qs v).qu = s.qu := rfl
theorem wr_ex_qs {s : sSt} {v : List Nat} : (s.w_qs v).ex = s.ex := rfl
theorem wr_bi_qs {s : sSt} {v : List Nat} : (s.w_qs v).bi = s.bi := rfl
theorem wr_co_qs {s : sSt} {v : List Nat} : (s.w_qs v).co = s.co := rfl
theorem wr_en_qs {s : sSt} {v : List Nat} : (s.w_qs v).en = s.en := rfl
theorem wr_se_qs {s : sSt} {v : List Nat} : (s.w_qs v).se = s.se := rfl
theorem wr_cn_qs {s : sSt} {v : List Nat} : (s.w_qs v).cn = s.cn := rfl
theorem wr_ch_qs {s : sSt} {v : List Nat} : (s.w_qs v).ch = s.ch := rfl
theorem wr_qs {s : sSt} {v : List Nat} : (s.w_qs v).qs = v := rfl
theorem wr_es_qs {s : sSt} {v : List Nat} : (s.w_qs v).es = s.es := rfl
theorem wr_bs_qs {s : sSt} {v : List Nat} : (s.w_qs v).bs = s.bs := rfl
theorem wr_cs_qs {s : sSt} {v : List Nat} : (s.w_qs v).cs = s.cs := rfl
theorem wr_dead_qs {s : sSt} {v : List Nat} : (s.w_qs v).dead = s.dead := rfl
theorem wr_facts_qs {s : sSt} {v : List Nat} : (s.w_qs v).facts = s.facts := rfl
theorem wr_sqs_qs {s : sSt} {v : List Nat} : (s.w_qs v).sqs = s.sqs := rfl
theorem wr_ses_qs {s : sSt} {v : List Nat} : (s.w_qs v).ses = s.ses := rfl
theorem wr_sbs_qs {s : sSt} {v : List Nat} : (s.w_qs v).sbs = s.sbs := rfl
theorem wr_sen_qs {s : sSt} {v : List Nat} : (s.w_qs v).sen = s.sen := rfl
theorem wr_messages_qs {s : sSt} {v : List Nat} : (s.w_qs v).messages = s.messages := rfl
theorem wr_lastNum_qs {s : sSt} {v : List Nat} : (s.w_qs v).lastNum = s.lastNum := rfl
theorem wr_gener_qs {s : sSt} {v : List Nat} : (s.w_qs v).gener = s.gener := rfl
theorem wr_clock_qs {s : sSt} {v : List Nat} : (s.w_qs v).clock = s.clock := rfl
theorem wr_deadOnes_qs {s : sSt} {v : List Nat} : (s.w_qs v).deadOnes = s.deadOnes := rfl
theorem wr_crashes_qs {s : sSt} {v : List Nat} : (s.w_qs v).crashes = s.crashes := rfl
theorem wr_tape_qs {s : sSt} {v : List Nat} : (s.w_qs v).tape = s.tape := rfl
theorem wr_next_qs {s : sSt} {v : List Nat} : (s.w_qs v).next = s.next := rfl
theorem wr_knd_qs {s : sSt} {v : List Nat} : (s.w_qs v).knd = s.knd := rfl
theorem wr_qu_es {s : sSt} {v : List Nat} : (s.w_es v).qu = s.qu := rfl
theorem wr_ex_es {s : sSt} {v : List Nat} : (s.w_es v).ex = s.ex := rfl
theorem wr_bi_es {s : sSt} {v : List Nat} : (s.w_es v).bi = s.bi := rfl
theorem wr_co_es {s : sSt} {v : List Nat} : (s.w_es v).co = s.co := rfl
theorem wr_en_es {s : sSt} {v : List Nat} : (s.w_es v).en = s.en := rfl
theorem wr_se_es {s : sSt} {v : List Nat} : (s.w_es v).se = s.se := rfl
theorem wr_cn_es {s : sSt} {v : List Nat} : (s.w_es v).cn = s.cn := rfl
theorem wr_ch_es {s : sSt} {v : List Nat} : (s.w_es v).ch = s.ch := rfl
theorem wr_qs_es {s : sSt} {v : List Nat} : (s.w_es v).qs = s.qs := rfl
theorem wr_es {s : sSt} {v : List Nat} : (s.w_es v).es = v := rfl
theorem wr_bs_es {s : sSt} {v : List Nat} : (s.w_es v).bs = s.bs := rfl
theorem wr_cs_es {s : sSt} {v : List Nat} : (s.w_es v).cs = s.cs := rfl
theorem wr_dead_es {s : sSt} {v : List Nat} : (s.w_es v).dead = s.dead := rfl
theorem wr_facts_es {s : sSt} {v : List Nat} : (s.w_es v).facts = s.facts := rfl
theorem wr_sqs_es {s : sSt} {v : List Nat} : (s.w_es v).sqs = s.sqs := rfl
theorem wr_ses_es {s : sSt} {v : List Nat} : (s.w_es v).ses = s.ses := rfl
theorem wr_sbs_es {s : sSt} {v : List Nat} : (s.w_es v).sbs = s.sbs := rfl
theorem wr_sen_es {s : sSt} {v : List Nat} : (s.w_es v).sen = s.sen := rfl
theorem wr_messages_es {s : sSt} {v : List Nat} : (s.w_es v).messages = s.messages := rfl
theorem wr_lastNum_es {s : sSt} {v : List Nat} : (s.w_es v).lastNum = s.lastNum := rfl
theorem wr_gener_es {s : sSt} {v : List Nat} : (s.w_es v).gener = s.gener := rfl
theorem wr_clock_es {s : sSt} {v : List Nat} : (s.w_es v).clock = s.clock := rfl
theorem wr_deadOnes_es {s : sSt} {v : List Nat} : (s.w_es v).deadOnes = s.deadOnes := rfl
theorem wr_crashes_es {s : sSt} {v : List Nat} : (s.w_es v).crashes = s.crashes := rfl
theorem wr_tape_es {s : sSt} {v : List Nat} : (s.w_es v).tape = s.tape := rfl
theorem wr_next_es {s : sSt} {v : List Nat} : (s.w_es v).next = s.next := rfl
theorem wr_knd_es {s : sSt} {v : List Nat} : (s.w_es v).knd = s.knd := rfl
theorem wr_qu_bs {s : sSt} {v : List Nat} : (s.w_bs v).qu = s.qu := rfl
theorem wr_ex_bs {s : sSt} {v : List Nat} : (s.w_bs v).ex = s.ex := rfl
theorem wr_bi_bs {s : sSt} {v : List Nat} : (s.w_bs v).bi = s.bi := rfl
theorem wr_co_bs {s : sSt} {v : List Nat} : (s.w_bs v).co = s.co := rfl
theorem wr_en_bs {s : sSt} {v : List Nat} : (s.w_bs v).en = s.en := rfl
theorem wr_se_bs {s : sSt} {v : List Nat} : (s.w_bs v).se = s.se := rfl
theorem wr_cn_bs {s : sSt} {v : List Nat} : (s.w_bs v).cn = s.cn := rfl
theorem wr_ch_bs {s : sSt} {v : List Nat} : (s.w_bs v).ch = s.ch := rfl
theorem wr_qs_bs {s : sSt} {v : List Nat} : (s.w_bs v).qs = s.qs := rfl
theorem wr_es_bs {s : sSt} {v : List Nat} : (s.w_bs v).es = s.es := rfl
theorem wr_bs {s : sSt} {v : List Nat} : (s.w_bs v).bs = v := rfl
theorem wr_cs_bs {s : sSt} {v : List Nat} : (s.w_bs v).cs = s.cs := rfl
theorem wr_dead_bs {s : sSt} {v : List Nat} : (s.w_bs v).dead = s.dead := rfl
theorem wr_facts_bs {s : sSt} {v : List Nat} : (s.w_bs v).facts = s.facts := rfl
theorem wr_sqs_bs {s : sSt} {v : List Nat} : (s.w_bs v).sqs = s.sqs := rfl
theorem wr_ses_bs {s : sSt} {v : List Nat} : (s.w_bs v).ses = s.ses := rfl
theorem wr_sbs_bs {s : sSt} {v : List Nat} : (s.w_bs v).sbs = s.sbs := rfl
theorem wr_sen_bs {s : sSt} {v : List Nat} : (s.w_bs v).sen = s.sen := rfl
theorem wr_messages_bs {s : sSt} {v : List Nat} : (s.w_bs v).messages = s.messages := rfl
theorem wr_lastNum_bs {s : sSt} {v : List Nat} : (s.w_bs v).lastNum = s.lastNum := rfl
theorem wr_gener_bs {s : sSt} {v : List Nat} : (s.w_bs v).gener = s.gener := rfl
theorem wr_clock_bs {s : sSt} {v : List Nat} : (s.w_bs v).clock = s.clock := rfl
theorem wr_deadOnes_bs {s : sSt} {v : List Nat} : (s.w_bs v).deadOnes = s.deadOnes := rfl
theorem wr_crashes_bs {s : sSt} {v : List Nat} : (s.w_bs v).crashes = s.crashes := rfl
theorem wr_tape_bs {s : sSt} {v : List Nat} : (s.w_bs v).tape = s.tape := rfl
theorem wr_next_bs {s : sSt} {v : List Nat} : (s.w_bs v).next = s.next := rfl
theorem wr_knd_bs {s : sSt} {v : List Nat} : (s.w_bs v).knd = s.knd := rfl
theorem wr_qu_cs {s : sSt} {v : List Nat} : (s.w_cs v).qu = s.qu := rfl
theorem wr_ex_cs {s : sSt} {v : List Nat} : (s.w_cs v).ex = s.ex := rfl
theorem wr_bi_cs {s : sSt} {v : List Nat} : (s.w_cs v).bi = s.bi := rfl
theorem wr_co_cs {s : sSt} {v : List Nat} : (s.w_cs v).co = s.co := rfl
theorem wr_en_cs {s : sSt} {v : List Nat} : (s.w_cs v).en = s.en := rfl
theorem wr_se_cs {s : sSt} {v : List Nat} : (s.w_cs v).se = s.se := rfl
theorem wr_cn_cs {s : sSt} {v : List Nat} : (s.w_cs v).cn = s.cn := rfl
theorem wr_ch_cs {s : sSt} {v : List Nat} : (s.w_cs v).ch = s.ch := rfl
theorem wr_qs_cs {s : sSt} {v : List Nat} : (s.w_cs v).qs = s.qs := rfl
theorem wr_es_cs {s : sSt} {v : List Nat} : (s.w_cs v).es = s.es := rfl
theorem wr_bs_cs {s : sSt} {v : List Nat} : (s.w_cs v).bs = s.bs := rfl
theorem wr_cs {s : sSt} {v : List Nat} : (s.w_cs v).cs = v := rfl
theorem wr_dead_cs {s : sSt} {v : List Nat} : (s.w_cs v).dead = s.dead := rfl
theorem wr_facts_cs {s : sSt} {v : List Nat} : (s.w_cs v).facts = s.facts := rfl
theorem wr_sqs_cs {s : sSt} {v : List Nat} : (s.w_cs v).sqs = s.sqs := rfl
theorem wr_ses_cs {s : sSt} {v : List Nat} : (s.w_cs v).ses = s.ses := rfl
theorem wr_sbs_cs {s : sSt} {v : List Nat} : (s.w_cs v).sbs = s.sbs := rfl
theorem wr_sen_cs {s : sSt} {v : List Nat} : (s.w_cs v).sen = s.sen := rfl
theorem wr_messages_cs {s : sSt} {v : List Nat} : (s.w_cs v).messages = s.messages := rfl
theorem wr_lastNum_cs {s : sSt} {v : List Nat} : (s.w_cs v).lastNum = s.lastNum := rfl
theorem wr_gener_cs {s : sSt} {v : List Nat} : (s.w_cs v).gener = s.gener := rfl
theorem wr_clock_cs {s : sSt} {v : List Nat} : (s.w_cs v).clock = s.clock := rfl
theorem wr_deadOnes_cs {s : sSt} {v : List Nat} : (s.w_cs v).deadOnes = s.deadOnes := rfl
theorem wr_crashes_cs {s : sSt} {v : List Nat} : (s.w_cs v).crashes = s.crashes := rfl
theorem wr_tape_cs {s : sSt} {v : List Nat} : (s.w_cs v).tape = s.tape := rfl
theorem wr_next_cs {s : sSt} {v : List Nat} : (s.w_cs v).next = s.next := rfl
theorem wr_knd_cs {s : sSt} {v : List Nat} : (s.w_cs v).knd = s.knd := rfl
theorem wr_qu_dead {s : sSt} {v : List sDe} : (s.w_dead v).qu = s.qu := rfl
theorem wr_ex_dead {s : sSt} {v : List sDe} : (s.w_dead v).ex = s.ex := rfl
theorem wr_bi_dead {s : sSt} {v : List sDe} : (s.w_dead v).bi = s.bi := rfl
theorem wr_co_dead {s : sSt} {v : List sDe} : (s.w_dead v).co = s.co := rfl
theorem wr_en_dead {s : sSt} {v : List sDe} : (s.w_dead v).en = s.en := rfl
theorem wr_se_dead {s : sSt} {v : List sDe} : (s.w_dead v).se = s.se := rfl
theorem wr_cn_dead {s : sSt} {v : List sDe} : (s.w_dead v).cn = s.cn := rfl
theorem wr_ch_dead {s : sSt} {v : List sDe} : (s.w_dead v).ch = s.ch := rfl
theorem wr_qs_dead {s : sSt} {v : List sDe} : (s.w_dead v).qs = s.qs := rfl
theorem wr_es_dead {s : sSt} {v : List sDe} : (s.w_dead v).es = s.es := rfl
theorem wr_bs_dead {s : sSt} {v : List sDe} : (s.w_dead v).bs = s.bs := rfl
theorem wr_cs_dead {s : sSt} {v : List sDe} : (s.w_dead v).cs = s.cs := rfl
theorem wr_dead {s : sSt} {v : List sDe} : (s.w_dead v).dead = v := rfl
theorem wr_facts_dead {s : sSt} {v : List sDe} : (s.w_dead v).facts = s.facts := rfl
theorem wr_sqs_dead {s : sSt} {v : List sDe} : (s.w_dead v).sqs = s.sqs := rfl
theorem wr_ses_dead {s : sSt} {v : List sDe} : (s.w_dead v).ses = s.ses := rfl
theorem wr_sbs_dead {s : sSt} {v : List sDe} : (s.w_dead v).sbs = s.sbs := rfl
theorem wr_sen_dead {s : sSt} {v : List sDe} : (s.w_dead v).sen = s.sen := rfl
theorem wr_messages_dead {s : sSt} {v : List sDe} : (s.w_dead v).messages = s.messages := rfl
theorem wr_lastNum_dead {s : sSt} {v : List sDe} : (s.w_dead v).lastNum = s.lastNum := rfl
theorem wr_gener_dead {s : sSt} {v : List sDe} : (s.w_dead v).gener = s.gener := rfl
theorem wr_clock_dead {s : sSt} {v : List sDe} : (s.w_dead v).clock = s.clock := rfl
theorem wr_deadOnes_dead {s : sSt} {v : List sDe} : (s.w_dead v).deadOnes = s.deadOnes := rfl
theorem wr_crashes_dead {s : sSt} {v : List sDe} : (s.w_dead v).crashes = s.crashes := rfl
theorem wr_tape_dead {s : sSt} {v : List sDe} : (s.w_dead v).tape = s.tape := rfl
theorem wr_next_dead {s : sSt} {v : List sDe} : (s.w_dead v).next = s.next := rfl
theorem wr_knd_dead {s : sSt} {v : List sDe} : (s.w_dead v).knd = s.knd := rfl
theorem wr_qu_facts {s : sSt} {v : List sFa} : (s.w_facts v).qu = s.qu := rfl
theorem wr_ex_facts {s : sSt} {v : List sFa} : (s.w_facts v).ex = s.ex := rfl
theorem wr_bi_facts {s : sSt} {v : List sFa} : (s.w_facts v).bi = s.bi := rfl
theorem wr_co_facts {s : sSt} {v : List sFa} : (s.w_facts v).co = s.co := rfl
theorem wr_en_facts {s : sSt} {v : List sFa} : (s.w_facts v).en = s.en := rfl
theorem wr_se_facts {s : sSt} {v : List sFa} : (s.w_facts v).se = s.se := rfl
theorem wr_cn_facts {s : sSt} {v : List sFa} : (s.w_facts v).cn = s.cn := rfl
theorem wr_ch_facts {s : sSt} {v : List sFa} : (s.w_facts v).ch = s.ch := rfl
theorem wr_qs_facts {s : sSt} {v : List sFa} : (s.w_facts v).qs = s.qs := rfl
theorem wr_es_facts {s : sSt} {v : List sFa} : (s.w_facts v).es = s.es := rfl
theorem wr_bs_facts {s : sSt} {v : List sFa} : (s.w_facts v).bs = s.bs := rfl
theorem wr_cs_facts {s : sSt} {v : List sFa} : (s.w_facts v).cs = s.cs := rfl
theorem wr_dead_facts {s : sSt} {v : List sFa} : (s.w_facts v).dead = s.dead := rfl
theorem wr_facts {s : sSt} {v : List sFa} : (s.w_facts v).facts = v := rfl
theorem wr_sqs_facts {s : sSt} {v : List sFa} : (s.w_facts v).sqs = s.sqs := rfl
theorem wr_ses_facts {s : sSt} {v : List sFa} : (s.w_facts v).ses = s.ses := rfl
theorem wr_sbs_facts {s : sSt} {v : List sFa} : (s.w_facts v).sbs = s.sbs := rfl
theorem wr_sen_facts {s : sSt} {v : List sFa} : (s.w_facts v).sen = s.sen := rfl
theorem wr_messages_facts {s : sSt} {v : List sFa} : (s.w_facts v).messages = s.messages := rfl
theorem wr_lastNum_facts {s : sSt} {v : List sFa} : (s.w_facts v).lastNum = s.lastNum := rfl
theorem wr_gener_facts {s : sSt} {v : List sFa} : (s.w_facts v).gener = s.gener := rfl
theorem wr_clock_facts {s : sSt} {v : List sFa} : (s.w_facts v).clock = s.clock := rfl
theorem wr_deadOnes_facts {s : sSt} {v : List sFa} : (s.w_facts v).deadOnes = s.deadOnes := rfl
theorem wr_crashes_facts {s : sSt} {v : List sFa} : (s.w_facts v).crashes = s.crashes := rfl
theorem wr_tape_facts {s : sSt} {v : List sFa} : (s.w_facts v).tape = s.tape := rfl
theorem wr_next_facts {s : sSt} {v : List sFa} : (s.w_facts v).next = s.next := rfl
theorem wr_knd_facts {s : sSt} {v : List sFa} : (s.w_facts v).knd = s.knd := rfl
theorem wr_qu_sqs {s : sSt} {v : List Nat} : (s.w_sqs v).qu = s.qu := rfl
theorem wr_ex_sqs {s : sSt} {v : List Nat} : (s.w_sqs v).ex = s.ex := rfl
theorem wr_bi_sqs {s : sSt} {v : List Nat} : (s.w_sqs v).bi = s.bi := rfl
theorem wr_co_sqs {s : sSt} {v : List Nat} : (s.w_sqs v).co = s.co := rfl
theorem wr_en_sqs {s : sSt} {v : List Nat} : (s.w_sqs v).en = s.en := rfl
theorem wr_se_sqs {s : sSt} {v : List Nat} : (s.w_sqs v).se = s.se := rfl
theorem wr_cn_sqs {s : sSt} {v : List Nat} : (s.w_sqs v).cn = s.cn := rfl
theorem wr_ch_sqs {s : sSt} {v : List Nat} : (s.w_sqs v).ch = s.ch := rfl
theorem wr_qs_sqs {s : sSt} {v : List Nat} : (s.w_sqs v).qs = s.qs := rfl
theorem wr_es_sqs {s : sSt} {v : List Nat} : (s.w_sqs v).es = s.es := rfl
theorem wr_bs_sqs {s : sSt} {v : List Nat} : (s.w_sqs v).bs = s.bs := rfl
theorem wr_cs_sqs {s : sSt} {v : List Nat} : (s.w_sqs v).cs = s.cs := rfl
theorem wr_dead_sqs {s : sSt} {v : List Nat} : (s.w_sqs v).dead = s.dead := rfl
theorem wr_facts_sqs {s : sSt} {v : List Nat} : (s.w_sqs v).facts = s.facts := rfl
theorem wr_sqs {s : sSt} {v : List Nat} : (s.w_sqs v).sqs = v := rfl
theorem wr_ses_sqs {s : sSt} {v : List Nat} : (s.w_sqs v).ses = s.ses := rfl
theorem wr_sbs_sqs {s : sSt} {v : List Nat} : (s.w_sqs v).sbs = s.sbs := rfl
theorem wr_sen_sqs {s : sSt} {v : List Nat} : (s.w_sqs v).sen = s.sen := rfl
theorem wr_messages_sqs {s : sSt} {v : List Nat} : (s.w_sqs v).messages = s.messages := rfl
theorem wr_lastNum_sqs {s : sSt} {v : List Nat} : (s.w_sqs v).lastNum = s.lastNum := rfl
theorem wr_gener_sqs {s : sSt} {v : List Nat} : (s.w_sqs v).gener = s.gener := rfl
theorem wr_clock_sqs {s : sSt} {v : List Nat} : (s.w_sqs v).clock = s.clock := rfl
theorem wr_deadOnes_sqs {s : sSt} {v : List Nat} : (s.w_sqs v).deadOnes = s.deadOnes := rfl
theorem wr_crashes_sqs {s : sSt} {v : List Nat} : (s.w_sqs v).crashes = s.crashes := rfl
theorem wr_tape_sqs {s : sSt} {v : List Nat} : (s.w_sqs v).tape = s.tape := rfl
theorem wr_next_sqs {s : sSt} {v : List Nat} : (s.w_sqs v).next = s.next := rfl
theorem wr_knd_sqs {s : sSt} {v : List Nat} : (s.w_sqs v).knd = s.knd := rfl
theorem wr_qu_ses {s : sSt} {v : List Nat} : (s.w_ses v).qu = s.qu := rfl
theorem wr_ex_ses {s : sSt} {v : List Nat} : (s.w_ses v).ex = s.ex := rfl
theorem wr_bi_ses {s : sSt} {v : List Nat} : (s.w_ses v).bi = s.bi := rfl
theorem wr_co_ses {s : sSt} {v : List Nat} : (s.w_ses v).co = s.co := rfl
theorem wr_en_ses {s : sSt} {v : List Nat} : (s.w_ses v).en = s.en := rfl
theorem wr_se_ses {s : sSt} {v : List Nat} : (s.w_ses v).se = s.se := rfl
theorem wr_cn_ses {s : sSt} {v : List Nat} : (s.w_ses v).cn = s.cn := rfl
theorem wr_ch_ses {s : sSt} {v : List Nat} : (s.w_ses v).ch = s.ch := rfl
theorem wr_qs_ses {s : sSt} {v : List Nat} : (s.w_ses v).qs = s.qs := rfl
theorem wr_es_ses {s : sSt} {v : List Nat} : (s.w_ses v).es = s.es := rfl
theorem wr_bs_ses {s : sSt} {v : List Nat} : (s.w_ses v).bs = s.bs := rfl
theorem wr_cs_ses {s : sSt} {v : List Nat} : (s.w_ses v).cs = s.cs := rfl
theorem wr_dead_ses {s : sSt} {v : List Nat} : (s.w_ses v).dead = s.dead := rfl
theorem wr_facts_ses {s : sSt} {v : List Nat} : (s.w_ses v).facts = s.facts := rfl
theorem wr_sqs_ses {s : sSt} {v : List Nat} : (s.w_ses v).sqs = s.sqs := rfl
theorem wr_ses {s : sSt} {v : List Nat} : (s.w_ses v).ses = v := rfl
theorem wr_sbs_ses {s : sSt} {v : List Nat} : (s.w_ses v).sbs = s.sbs := rfl
theorem wr_sen_ses {s : sSt} {v : List Nat} : (s.w_ses v).sen = s.sen := rfl
theorem wr_messages_ses {s : sSt} {v : List Nat} : (s.w_ses v).messages = s.messages := rfl
theorem wr_lastNum_ses {s : sSt} {v : List Nat} : (s.w_ses v).lastNum = s.lastNum := rfl
theorem wr_gener_ses {s : sSt} {v : List Nat} : (s.w_ses v).gener = s.gener := rfl
theorem wr_clock_ses {s : sSt} {v : List Nat} : (s.w_ses v).clock = s.clock := rfl
theorem wr_deadOnes_ses {s : sSt} {v : List Nat} : (s.w_ses v).deadOnes = s.deadOnes := rfl
theorem wr_crashes_ses {s : sSt} {v : List Nat} : (s.w_ses v).crashes = s.crashes := rfl
theorem wr_tape_ses {s : sSt} {v : List Nat} : (s.w_ses v).tape = s.tape := rfl
theorem wr_next_ses {s : sSt} {v : List Nat} : (s.w_ses v).next = s.next := rfl
theorem wr_knd_ses {s : sSt} {v : List Nat} : (s.w_ses v).knd = s.knd := rfl
theorem wr_qu_sbs {s : sSt} {v : List Nat} : (s.w_sbs v).qu = s.qu := rfl
theorem wr_ex_sbs {s : sSt} {v : List Nat} : (s.w_sbs v).ex = s.ex := rfl
theorem wr_bi_sbs {s : sSt} {v : List Nat} : (s.w_sbs v).bi = s.bi := rfl
theorem wr_co_sbs {s : sSt} {v : List Nat} : (s.w_sbs v).co = s.co := rfl
theorem wr_en_sbs {s : sSt} {v : List Nat} : (s.w_sbs v).en = s.en := rfl
theorem wr_se_sbs {s : sSt} {v : List Nat} : (s.w_sbs v).se = s.se := rfl
theorem wr_cn_sbs {s : sSt} {v : List Nat} : (s.w_sbs v).cn = s.cn := rfl
theorem wr_ch_sbs {s : sSt} {v : List Nat} : (s.w_sbs v).ch = s.ch := rfl
theorem wr_qs_sbs {s : sSt} {v : List Nat} : (s.w_sbs v).qs = s.qs := rfl
theorem wr_es_sbs {s : sSt} {v : List Nat} : (s.w_sbs v).es = s.es := rfl
theorem wr_bs_sbs {s : sSt} {v : List Nat} : (s.w_sbs v).bs = s.bs := rfl
theorem wr_cs_sbs {s : sSt} {v : List Nat} : (s.w_sbs v).cs = s.cs := rfl
theorem wr_dead_sbs {s : sSt} {v : List Nat} : (s.w_sbs v).dead = s.dead := rfl
theorem wr_facts_sbs {s : sSt} {v : List Nat} : (s.w_sbs v).facts = s.facts := rfl
theorem wr_sqs_sbs {s : sSt} {v : List Nat} : (s.w_sbs v).sqs = s.sqs := rfl
theorem wr_ses_sbs {s : sSt} {v : List Nat} : (s.w_sbs v).ses = s.ses := rfl
theorem wr_sbs {s : sSt} {v : List Nat} : (s.w_sbs v).sbs = v := rfl
theorem wr_sen_sbs {s : sSt} {v : List Nat} : (s.w_sbs v).sen = s.sen := rfl
theorem wr_messages_sbs {s : sSt} {v : List Nat} : (s.w_sbs v).messages = s.messages := rfl
theorem wr_lastNum_sbs {s : sSt} {v : List Nat} : (s.w_sbs v).lastNum = s.lastNum := rfl
theorem wr_gener_sbs {s : sSt} {v : List Nat} : (s.w_sbs v).gener = s.gener := rfl
theorem wr_clock_sbs {s : sSt} {v : List Nat} : (s.w_sbs v).clock = s.clock := rfl
theorem wr_deadOnes_sbs {s : sSt} {v : List Nat} : (s.w_sbs v).deadOnes = s.deadOnes := rfl
theorem wr_crashes_sbs {s : sSt} {v : List Nat} : (s.w_sbs v).crashes = s.crashes := rfl
theorem wr_tape_sbs {s : sSt} {v : List Nat} : (s.w_sbs v).tape = s.tape := rfl
theorem wr_next_sbs {s : sSt} {v : List Nat} : (s.w_sbs v).next = s.next := rfl
theorem wr_knd_sbs {s : sSt} {v : List Nat} : (s.w_sbs v).knd = s.knd := rfl
theorem wr_qu_sen {s : sSt} {v : List Nat} : (s.w_sen v).qu = s.qu := rfl
theorem wr_ex_sen {s : sSt} {v : List Nat} : (s.w_sen v).ex = s.ex := rfl
theorem wr_bi_sen {s : sSt} {v : List Nat} : (s.w_sen v).bi = s.bi := rfl
theorem wr_co_sen {s : sSt} {v : List Nat} : (s.w_sen v).co = s.co := rfl
theorem wr_en_sen {s : sSt} {v : List Nat} : (s.w_sen v).en = s.en := rfl
theorem wr_se_sen {s : sSt} {v : List Nat} : (s.w_sen v).se = s.se := rfl
theorem wr_cn_sen {s : sSt} {v : List Nat} : (s.w_sen v).cn = s.cn := rfl
theorem wr_ch_sen {s : sSt} {v : List Nat} : (s.w_sen v).ch = s.ch := rfl
theorem wr_qs_sen {s : sSt} {v : List Nat} : (s.w_sen v).qs = s.qs := rfl
theorem wr_es_sen {s : sSt} {v : List Nat} : (s.w_sen v).es = s.es := rfl
theorem wr_bs_sen {s : sSt} {v : List Nat} : (s.w_sen v).bs = s.bs := rfl
theorem wr_cs_sen {s : sSt} {v : List Nat} : (s.w_sen v).cs = s.cs := rfl
theorem wr_dead_sen {s : sSt} {v : List Nat} : (s.w_sen v).dead = s.dead := rfl
theorem wr_facts_sen {s : sSt} {v : List Nat} : (s.w_sen v).facts = s.facts := rfl
theorem wr_sqs_sen {s : sSt} {v : List Nat} : (s.w_sen v).sqs = s.sqs := rfl
theorem wr_ses_sen {s : sSt} {v : List Nat} : (s.w_sen v).ses = s.ses := rfl
theorem wr_sbs_sen {s : sSt} {v : List Nat} : (s.w_sen v).sbs = s.sbs := rfl
theorem wr_sen {s : sSt} {v : List Nat} : (s.w_sen v).sen = v := rfl
theorem wr_messages_sen {s : sSt} {v : List Nat} : (s.w_sen v).messages = s.messages := rfl
theorem wr_lastNum_sen {s : sSt} {v : List Nat} : (s.w_sen v).lastNum = s.lastNum := rfl
theorem wr_gener_sen {s : sSt} {v : List Nat} : (s.w_sen v).gener = s.gener := rfl
theorem wr_clock_sen {s : sSt} {v : List Nat} : (s.w_sen v).clock = s.clock := rfl
theorem wr_deadOnes_sen {s : sSt} {v : List Nat} : (s.w_sen v).deadOnes = s.deadOnes := rfl
theorem wr_crashes_sen {s : sSt} {v : List Nat} : (s.w_sen v).crashes = s.crashes := rfl
theorem wr_tape_sen {s : sSt} {v : List Nat} : (s.w_sen v).tape = s.tape := rfl
theorem wr_next_sen {s : sSt} {v : List Nat} : (s.w_sen v).next = s.next := rfl
theorem wr_knd_sen {s : sSt} {v : List Nat} : (s.w_sen v).knd = s.knd := rfl
theorem wr_qu_messages {s : sSt} {v : Int32} : (s.w_messages v).qu = s.qu := rfl
theorem wr_ex_messages {s : sSt} {v : Int32} : (s.w_messages v).ex = s.ex := rfl
theorem wr_bi_messages {s : sSt} {v : Int32} : (s.w_messages v).bi = s.bi := rfl
theorem wr_co_messages {s : sSt} {v : Int32} : (s.w_messages v).co = s.co := rfl
theorem wr_en_messages {s : sSt} {v : Int32} : (s.w_messages v).en = s.en := rfl
theorem wr_se_messages {s : sSt} {v : Int32} : (s.w_messages v).se = s.se := rfl
theorem wr_cn_messages {s : sSt} {v : Int32} : (s.w_messages v).cn = s.cn := rfl
theorem wr_ch_messages {s : sSt} {v : Int32} : (s.w_messages v).ch = s.ch := rfl
theorem wr_qs_messages {s : sSt} {v : Int32} : (s.w_messages v).qs = s.qs := rfl
theorem wr_es_messages {s : sSt} {v : Int32} : (s.w_messages v).es = s.es := rfl
theorem wr_bs_messages {s : sSt} {v : Int32} : (s.w_messages v).bs = s.bs := rfl
theorem wr_cs_messages {s : sSt} {v : Int32} : (s.w_messages v).cs = s.cs := rfl
theorem wr_dead_messages {s : sSt} {v : Int32} : (s.w_messages v).dead = s.dead := rfl
theorem wr_facts_messages {s : sSt} {v : Int32} : (s.w_messages v).facts = s.facts := rfl
theorem wr_sqs_messages {s : sSt} {v : Int32} : (s.w_messages v).sqs = s.sqs := rfl
theorem wr_ses_messages {s : sSt} {v : Int32} : (s.w_messages v).ses = s.ses := rfl
theorem wr_sbs_messages {s : sSt} {v : Int32} : (s.w_messages v).sbs = s.sbs := rfl
theorem wr_sen_messages {s : sSt} {v : Int32} : (s.w_messages v).sen = s.sen := rfl
theorem wr_messages {s : sSt} {v : Int32} : (s.w_messages v).messages = v := rfl
theorem wr_lastNum_messages {s : sSt} {v : Int32} : (s.w_messages v).lastNum = s.lastNum := rfl
theorem wr_gener_messages {s : sSt} {v : Int32} : (s.w_messages v).gener = s.gener := rfl
theorem wr_clock_messages {s : sSt} {v : Int32} : (s.w_messages v).clock = s.clock := rfl
theorem wr_deadOnes_messages {s : sSt} {v : Int32} : (s.w_messages v).deadOnes = s.deadOnes := rfl
theorem wr_crashes_messages {s : sSt} {v : Int32} : (s.w_messages v).crashes = s.crashes := rfl
theorem wr_tape_messages {s : sSt} {v : Int32} : (s.w_messages v).tape = s.tape := rfl
theorem wr_next_messages {s : sSt} {v : Int32} : (s.w_messages v).next = s.next := rfl
theorem wr_knd_messages {s : sSt} {v : Int32} : (s.w_messages v).knd = s.knd := rfl
theorem wr_qu_lastNum {s : sSt} {v : Int32} : (s.w_lastNum v).qu = s.qu := rfl
theorem wr_ex_lastNum {s : sSt} {v : Int32} : (s.w_lastNum v).ex = s.ex := rfl
theorem wr_bi_lastNum {s : sSt} {v : Int32} : (s.w_lastNum v).bi = s.bi := rfl
theorem wr_co_lastNum {s : sSt} {v : Int32} : (s.w_lastNum v).co = s.co := rfl
theorem wr_en_lastNum {s : sSt} {v : Int32} : (s.w_lastNum v).en = s.en := rfl
theorem wr_se_lastNum {s : sSt} {v : Int32} : (s.w_lastNum v).se = s.se := rfl
theorem wr_cn_lastNum {s : sSt} {v : Int32} : (s.w_lastNum v).cn = s.cn := rfl
theorem wr_ch_lastNum {s : sSt} {v : Int32} : (s.w_lastNum v).ch = s.ch := rfl
theorem wr_qs_lastNum {s : sSt} {v : Int32} : (s.w_lastNum v).qs = s.qs := rfl
theorem wr_es_lastNum {s : sSt} {v : Int32} : (s.w_lastNum v).es = s.es := rfl
theorem wr_bs_lastNum {s : sSt} {v : Int32} : (s.w_lastNum v).bs = s.bs := rfl
theorem wr_cs_lastNum {s : sSt} {v : Int32} : (s.w_lastNum v).cs = s.cs := rfl
theorem wr_dead_lastNum {s : sSt} {v : Int32} : (s.w_lastNum v).dead = s.dead := rfl
theorem wr_facts_lastNum {s : sSt} {v : Int32} : (s.w_lastNum v).facts = s.facts := rfl
theorem wr_sqs_lastNum {s : sSt} {v : Int32} : (s.w_lastNum v).sqs = s.sqs := rfl
theorem wr_ses_lastNum {s : sSt} {v : Int32} : (s.w_lastNum v).ses = s.ses := rfl
theorem wr_sbs_lastNum {s : sSt} {v : Int32} : (s.w_lastNum v).sbs = s.sbs := rfl
theorem wr_sen_lastNum {s : sSt} {v : Int32} : (s.w_lastNum v).sen = s.sen := rfl
theorem wr_messages_lastNum {s : sSt} {v : Int32} : (s.w_lastNum v).messages = s.messages := rfl
theorem wr_lastNum {s : sSt} {v : Int32} : (s.w_lastNum v).lastNum = v := rfl
theorem wr_gener_lastNum {s : sSt} {v : Int32} : (s.w_lastNum v).gener = s.gener := rfl
theorem wr_clock_lastNum {s : sSt} {v : Int32} : (s.w_lastNum v).clock = s.clock := rfl
theorem wr_deadOnes_lastNum {s : sSt} {v : Int32} : (s.w_lastNum v).deadOnes = s.deadOnes := rfl
theorem wr_crashes_lastNum {s : sSt} {v : Int32} : (s.w_lastNum v).crashes = s.crashes := rfl
theorem wr_tape_lastNum {s : sSt} {v : Int32} : (s.w_lastNum v).tape = s.tape := rfl
theorem wr_next_lastNum {s : sSt} {v : Int32} : (s.w_lastNum v).next = s.next := rfl
theorem wr_knd_lastNum {s : sSt} {v : Int32} : (s.w_lastNum v).knd = s.knd := rfl
theorem wr_qu_gener {s : sSt} {v : Int32} : (s.w_gener v).qu = s.qu := rfl
theorem wr_ex_gener {s : sSt} {v : Int32} : (s.w_gener v).ex = s.ex := rfl
theorem wr_bi_gener {s : sSt} {v : Int32} : (s.w_gener v).bi = s.bi := rfl
theorem wr_co_gener {s : sSt} {v : Int32} : (s.w_gener v).co = s.co := rfl
theorem wr_en_gener {s : sSt} {v : Int32} : (s.w_gener v).en = s.en := rfl
theorem wr_se_gener {s : sSt} {v : Int32} : (s.w_gener v).se = s.se := rfl
theorem wr_cn_gener {s : sSt} {v : Int32} : (s.w_gener v).cn = s.cn := rfl
theorem wr_ch_gener {s : sSt} {v : Int32} : (s.w_gener v).ch = s.ch := rfl
theorem wr_qs_gener {s : sSt} {v : Int32} : (s.w_gener v).qs = s.qs := rfl
theorem wr_es_gener {s : sSt} {v : Int32} : (s.w_gener v).es = s.es := rfl
theorem wr_bs_gener {s : sSt} {v : Int32} : (s.w_gener v).bs = s.bs := rfl
theorem wr_cs_gener {s : sSt} {v : Int32} : (s.w_gener v).cs = s.cs := rfl
theorem wr_dead_gener {s : sSt} {v : Int32} : (s.w_gener v).dead = s.dead := rfl
theorem wr_facts_gener {s : sSt} {v : Int32} : (s.w_gener v).facts = s.facts := rfl
theorem wr_sqs_gener {s : sSt} {v : Int32} : (s.w_gener v).sqs = s.sqs := rfl
theorem wr_ses_gener {s : sSt} {v : Int32} : (s.w_gener v).ses = s.ses := rfl
theorem wr_sbs_gener {s : sSt} {v : Int32} : (s.w_gener v).sbs = s.sbs := rfl
theorem wr_sen_gener {s : sSt} {v : Int32} : (s.w_gener v).sen = s.sen := rfl
theorem wr_messages_gener {s : sSt} {v : Int32} : (s.w_gener v).messages = s.messages := rfl
theorem wr_lastNum_gener {s : sSt} {v : Int32} : (s.w_gener v).lastNum = s.lastNum := rfl
theorem wr_gener {s : sSt} {v : Int32} : (s.w_gener v).gener = v := rfl
theorem wr_clock_gener {s : sSt} {v : Int32} : (s.w_gener v).clock = s.clock := rfl
theorem wr_deadOnes_gener {s : sSt} {v : Int32} : (s.w_gener v).deadOnes = s.deadOnes := rfl
theorem wr_crashes_gener {s : sSt} {v : Int32} : (s.w_gener v).crashes = s.crashes := rfl
theorem wr_tape_gener {s : sSt} {v : Int32} : (s.w_gener v).tape = s.tape := rfl
theorem wr_next_gener {s : sSt} {v : Int32} : (s.w_gener v).next = s.next := rfl
theorem wr_knd_gener {s : sSt} {v : Int32} : (s.w_gener v).knd = s.knd := rfl
theorem wr_qu_clock {s : sSt} {v : Int32} : (s.w_clock v).qu = s.qu := rfl
theorem wr_ex_clock {s : sSt} {v : Int32} : (s.w_clock v).ex = s.ex := rfl
theorem wr_bi_clock {s : sSt} {v : Int32} : (s.w_clock v).bi = s.bi := rfl
theorem wr_co_clock {s : sSt} {v : Int32} : (s.w_clock v).co = s.co := rfl
theorem wr_en_clock {s : sSt} {v : Int32} : (s.w_clock v).en = s.en := rfl
theorem wr_se_clock {s : sSt} {v : Int32} : (s.w_clock v).se = s.se := rfl
theorem wr_cn_clock {s : sSt} {v : Int32} : (s.w_clock v).cn = s.cn := rfl
theorem wr_ch_clock {s : sSt} {v : Int32} : (s.w_clock v).ch = s.ch := rfl
theorem wr_qs_clock {s : sSt} {v : Int32} : (s.w_clock v).qs = s.qs := rfl
theorem wr_es_clock {s : sSt} {v : Int32} : (s.w_clock v).es = s.es := rfl
theorem wr_bs_clock {s : sSt} {v : Int32} : (s.w_clock v).bs = s.bs := rfl
theorem wr_cs_clock {s : sSt} {v : Int32} : (s.w_clock v).cs = s.cs := rfl
theorem wr_dead_clock {s : sSt} {v : Int32} : (s.w_clock v).dead = s.dead := rfl
theorem wr_facts_clock {s : sSt} {v : Int32} : (s.w_clock v).facts = s.facts := rfl
theorem wr_sqs_clock {s : sSt} {v : Int32} : (s.w_clock v).sqs = s.sqs := rfl
theorem wr_ses_clock {s : sSt} {v : Int32} : (s.w_clock v).ses = s.ses := rfl
theorem wr_sbs_clock {s : sSt} {v : Int32} : (s.w_clock v).sbs = s.sbs := rfl
theorem wr_sen_clock {s : sSt} {v : Int32} : (s.w_clock v).sen = s.sen := rfl
theorem wr_messages_clock {s : sSt} {v : Int32} : (s.w_clock v).messages = s.messages := rfl
theorem wr_lastNum_clock {s : sSt} {v : Int32} : (s.w_clock v).lastNum = s.lastNum := rfl
theorem wr_gener_clock {s : sSt} {v : Int32} : (s.w_clock v).gener = s.gener := rfl
theorem wr_clock {s : sSt} {v : Int32} : (s.w_clock v).clock = v := rfl
theorem wr_deadOnes_clock {s : sSt} {v : Int32} : (s.w_clock v).deadOnes = s.deadOnes := rfl
theorem wr_crashes_clock {s : sSt} {v : Int32} : (s.w_clock v).crashes = s.crashes := rfl
theorem wr_tape_clock {s : sSt} {v : Int32} : (s.w_clock v).tape = s.tape := rfl
theorem wr_next_clock {s : sSt} {v : Int32} : (s.w_clock v).next = s.next := rfl
theorem wr_knd_clock {s : sSt} {v : Int32} : (s.w_clock v).knd = s.knd := rfl
theorem wr_qu_deadOnes {s : sSt} {v : Int32} : (s.w_deadOnes v).qu = s.qu := rfl
theorem wr_ex_deadOnes {s : sSt} {v : Int32} : (s.w_deadOnes v).ex = s.ex := rfl
theorem wr_bi_deadOnes {s : sSt} {v : Int32} : (s.w_deadOnes v).bi = s.bi := rfl
theorem wr_co_deadOnes {s : sSt} {v : Int32} : (s.w_deadOnes v).co = s.co := rfl
theorem wr_en_deadOnes {s : sSt} {v : Int32} : (s.w_deadOnes v).en = s.en := rfl
theorem wr_se_deadOnes {s : sSt} {v : Int32} : (s.w_deadOnes v).se = s.se := rfl
theorem wr_cn_deadOnes {s : sSt} {v : Int32} : (s.w_deadOnes v).cn = s.cn := rfl
theorem wr_ch_deadOnes {s : sSt} {v : Int32} : (s.w_deadOnes v).ch = s.ch := rfl
theorem wr_qs_deadOnes {s : sSt} {v : Int32} : (s.w_deadOnes v).qs = s.qs := rfl
theorem wr_es_deadOnes {s : sSt} {v : Int32} : (s.w_deadOnes v).es = s.es := rfl
theorem wr_bs_deadOnes {s : sSt} {v : Int32} : (s.w_deadOnes v).bs = s.bs := rfl
theorem wr_cs_deadOnes {s : sSt} {v : Int32} : (s.w_deadOnes v).cs = s.cs := rfl
theorem wr_dead_deadOnes {s : sSt} {v : Int32} : (s.w_deadOnes v).dead = s.dead := rfl
theorem wr_facts_deadOnes {s : sSt} {v : Int32} : (s.w_deadOnes v).facts = s.facts := rfl
theorem wr_sqs_deadOnes {s : sSt} {v : Int32} : (s.w_deadOnes v).sqs = s.sqs := rfl
theorem wr_ses_deadOnes {s : sSt} {v : Int32} : (s.w_deadOnes v).ses = s.ses := rfl
theorem wr_sbs_deadOnes {s : sSt} {v : Int32} : (s.w_deadOnes v).sbs = s.sbs := rfl
theorem wr_sen_deadOnes {s : sSt} {v : Int32} : (s.w_deadOnes v).sen = s.sen := rfl
theorem wr_messages_deadOnes {s : sSt} {v : Int32} : (s.w_deadOnes v).messages = s.messages := rfl
theorem wr_lastNum_deadOnes {s : sSt} {v : Int32} : (s.w_deadOnes v).lastNum = s.lastNum := rfl
theorem wr_gener_deadOnes {s : sSt} {v : Int32} : (s.w_deadOnes v).gener = s.gener := rfl
theorem wr_clock_deadOnes {s : sSt} {v : Int32} : (s.w_deadOnes v).clock = s.clock := rfl
theorem wr_deadOnes {s : sSt} {v : Int32} : (s.w_deadOnes v).deadOnes = v := rfl
theorem wr_crashes_deadOnes {s : sSt} {v : Int32} : (s.w_deadOnes v).crashes = s.crashes := rfl
theorem wr_tape_deadOnes {s : sSt} {v : Int32} : (s.w_deadOnes v).tape = s.tape := rfl
theorem wr_next_deadOnes {s : sSt} {v : Int32} : (s.w_deadOnes v).next = s.next := rfl
theorem wr_knd_deadOnes {s : sSt} {v : Int32} : (s.w_deadOnes v).knd = s.knd := rfl
theorem wr_qu_crashes {s : sSt} {v : Int32} : (s.w_crashes v).qu = s.qu := rfl
theorem wr_ex_crashes {s : sSt} {v : Int32} : (s.w_crashes v).ex = s.ex := rfl
theorem wr_bi_crashes {s : sSt} {v : Int32} : (s.w_crashes v).bi = s.bi := rfl
theorem wr_co_crashes {s : sSt} {v : Int32} : (s.w_crashes v).co = s.co := rfl
theorem wr_en_crashes {s : sSt} {v : Int32} : (s.w_crashes v).en = s.en := rfl
theorem wr_se_crashes {s : sSt} {v : Int32} : (s.w_crashes v).se = s.se := rfl
theorem wr_cn_crashes {s : sSt} {v : Int32} : (s.w_crashes v).cn = s.cn := rfl
theorem wr_ch_crashes {s : sSt} {v : Int32} : (s.w_crashes v).ch = s.ch := rfl
theorem wr_qs_crashes {s : sSt} {v : Int32} : (s.w_crashes v).qs = s.qs := rfl
theorem wr_es_crashes {s : sSt} {v : Int32} : (s.w_crashes v).es = s.es := rfl
theorem wr_bs_crashes {s : sSt} {v : Int32} : (s.w_crashes v).bs = s.bs := rfl
theorem wr_cs_crashes {s : sSt} {v : Int32} : (s.w_crashes v).cs = s.cs := rfl
theorem wr_dead_crashes {s : sSt} {v : Int32} : (s.w_crashes v).dead = s.dead := rfl
theorem wr_facts_crashes {s : sSt} {v : Int32} : (s.w_crashes v).facts = s.facts := rfl
theorem wr_sqs_crashes {s : sSt} {v : Int32} : (s.w_crashes v).sqs = s.sqs := rfl
theorem wr_ses_crashes {s : sSt} {v : Int32} : (s.w_crashes v).ses = s.ses := rfl
theorem wr_sbs_crashes {s : sSt} {v : Int32} : (s.w_crashes v).sbs = s.sbs := rfl
theorem wr_sen_crashes {s : sSt} {v : Int32} : (s.w_crashes v).sen = s.sen := rfl
theorem wr_messages_crashes {s : sSt} {v : Int32} : (s.w_crashes v).messages = s.messages := rfl
theorem wr_lastNum_crashes {s : sSt} {v : Int32} : (s.w_crashes v).lastNum = s.lastNum := rfl
theorem wr_gener_crashes {s : sSt} {v : Int32} : (s.w_crashes v).gener = s.gener := rfl
theorem wr_clock_crashes {s : sSt} {v : Int32} : (s.w_crashes v).clock = s.clock := rfl
theorem wr_deadOnes_crashes {s : sSt} {v : Int32} : (s.w_crashes v).deadOnes = s.deadOnes := rfl
theorem wr_crashes {s : sSt} {v : Int32} : (s.w_crashes v).crashes = v := rfl
theorem wr_tape_crashes {s : sSt} {v : Int32} : (s.w_crashes v).tape = s.tape := rfl
theorem wr_next_crashes {s : sSt} {v : Int32} : (s.w_crashes v).next = s.next := rfl
theorem wr_knd_crashes {s : sSt} {v : Int32} : (s.w_crashes v).knd = s.knd := rfl
theorem wr_qu_tape {s : sSt} {v : sBy} : (s.w_tape v).qu = s.qu := rfl
theorem wr_ex_tape {s : sSt} {v : sBy} : (s.w_tape v).ex = s.ex := rfl
theorem wr_bi_tape {s : sSt} {v : sBy} : (s.w_tape v).bi = s.bi := rfl
theorem wr_co_tape {s : sSt} {v : sBy} : (s.w_tape v).co = s.co := rfl
theorem wr_en_tape {s : sSt} {v : sBy} : (s.w_tape v).en = s.en := rfl
theorem wr_se_tape {s : sSt} {v : sBy} : (s.w_tape v).se = s.se := rfl
theorem wr_cn_tape {s : sSt} {v : sBy} : (s.w_tape v).cn = s.cn := rfl
theorem wr_ch_tape {s : sSt} {v : sBy} : (s.w_tape v).ch = s.ch := rfl
theorem wr_qs_tape {s : sSt} {v : sBy} : (s.w_tape v).qs = s.qs := rfl
theorem wr_es_tape {s : sSt} {v : sBy} : (s.w_tape v).es = s.es := rfl
theorem wr_bs_tape {s : sSt} {v : sBy} : (s.w_tape v).bs = s.bs := rfl
theorem wr_cs_tape {s : sSt} {v : sBy} : (s.w_tape v).cs = s.cs := rfl
theorem wr_dead_tape {s : sSt} {v : sBy} : (s.w_tape v).dead = s.dead := rfl
theorem wr_facts_tape {s : sSt} {v : sBy} : (s.w_tape v).facts = s.facts := rfl
theorem wr_sqs_tape {s : sSt} {v : sBy} : (s.w_tape v).sqs = s.sqs := rfl
theorem wr_ses_tape {s : sSt} {v : sBy} : (s.w_tape v).ses = s.ses := rfl
theorem wr_sbs_tape {s : sSt} {v : sBy} : (s.w_tape v).sbs = s.sbs := rfl
theorem wr_sen_tape {s : sSt} {v : sBy} : (s.w_tape v).sen = s.sen := rfl
theorem wr_messages_tape {s : sSt} {v : sBy} : (s.w_tape v).messages = s.messages := rfl
theorem wr_lastNum_tape {s : sSt} {v : sBy} : (s.w_tape v).lastNum = s.lastNum := rfl
theorem wr_gener_tape {s : sSt} {v : sBy} : (s.w_tape v).gener = s.gener := rfl
theorem wr_clock_tape {s : sSt} {v : sBy} : (s.w_tape v).clock = s.clock := rfl
theorem wr_deadOnes_tape {s : sSt} {v : sBy} : (s.w_tape v).deadOnes = s.deadOnes := rfl
theorem wr_crashes_tape {s : sSt} {v : sBy} : (s.w_tape v).crashes = s.crashes := rfl
theorem wr_tape {s : sSt} {v : sBy} : (s.w_tape v).tape = v := rfl
theorem wr_next_tape {s : sSt} {v : sBy} : (s.w_tape v).next = s.next := rfl
theorem wr_knd_tape {s : sSt} {v : sBy} : (s.w_tape v).knd = s.knd := rfl
theorem wr_qu_next {s : sSt} {v : Nat} : (s.w_next v).qu = s.qu := rfl
theorem wr_ex_next {s : sSt} {v : Nat} : (s.w_next v).ex = s.ex := rfl
theorem wr_bi_next {s : sSt} {v : Nat} : (s.w_next v).bi = s.bi := rfl
theorem wr_co_next {s : sSt} {v : Nat} : (s.w_next v).co = s.co := rfl
theorem wr_en_next {s : sSt} {v : Nat} : (s.w_next v).en = s.en := rfl
theorem wr_se_next {s : sSt} {v : Nat} : (s.w_next v).se = s.se := rfl
theorem wr_cn_next {s : sSt} {v : Nat} : (s.w_next v).cn = s.cn := rfl
theorem wr_ch_next {s : sSt} {v : Nat} : (s.w_next v).ch = s.ch := rfl
theorem wr_qs_next {s : sSt} {v : Nat} : (s.w_next v).qs = s.qs := rfl
theorem wr_es_next {s : sSt} {v : Nat} : (s.w_next v).es = s.es := rfl
theorem wr_bs_next {s : sSt} {v : Nat} : (s.w_next v).bs = s.bs := rfl
theorem wr_cs_next {s : sSt} {v : Nat} : (s.w_next v).cs = s.cs := rfl
theorem wr_dead_next {s : sSt} {v : Nat} : (s.w_next v).dead = s.dead := rfl
theorem wr_facts_next {s : sSt} {v : Nat} : (s.w_next v).facts = s.facts := rfl
theorem wr_sqs_next {s : sSt} {v : Nat} : (s.w_next v).sqs = s.sqs := rfl
theorem wr_ses_next {s : sSt} {v : Nat} : (s.w_next v).ses = s.ses := rfl
theorem wr_sbs_next {s : sSt} {v : Nat} : (s.w_next v).sbs = s.sbs := rfl
theorem wr_sen_next {s : sSt} {v : Nat} : (s.w_next v).sen = s.sen := rfl
theorem wr_messages_next {s : sSt} {v : Nat} : (s.w_next v).messages = s.messages := rfl
theorem wr_lastNum_next {s : sSt} {v : Nat} : (s.w_next v).lastNum = s.lastNum := rfl
theorem wr_gener_next {s : sSt} {v : Nat} : (s.w_next v).gener = s.gener := rfl
theorem wr_clock_next {s : sSt} {v : Nat} : (s.w_next v).clock = s.clock := rfl
theorem wr_deadOnes_next {s : sSt} {v : Nat} : (s.w_next v).deadOnes = s.deadOnes := rfl
theorem wr_crashes_next {s : sSt} {v : Nat} : (s.w_next v).crashes = s.crashes := rfl
theorem wr_tape_next {s : sSt} {v : Nat} : (s.w_next v).tape = s.tape := rfl
theorem wr_next {s : sSt} {v : Nat} : (s.w_next v).next = v := rfl
theorem wr_knd_next {s : sSt} {v : Nat} : (s.w_next v).knd = s.knd := rfl
theorem wr_qu_knd {s : sSt} {v : Nat → Nat} : (s.w_knd v).qu = s.qu := rfl
theorem wr_ex_knd {s : sSt} {v : Nat → Nat} : (s.w_knd v).ex = s.ex := rfl
theorem wr_bi_knd {s : sSt} {v : Nat → Nat} : (s.w_knd v).bi = s.bi := rfl
theorem wr_co_knd {s : sSt} {v : Nat → Nat} : (s.w_knd v).co = s.co := rfl
theorem wr_en_knd {s : sSt} {v : Nat → Nat} : (s.w_knd v).en = s.en := rfl
theorem wr_se_knd {s : sSt} {v : Nat → Nat} : (s.w_knd v).se = s.se := rfl
theorem wr_cn_knd {s : sSt} {v : Nat → Nat} : (s.w_knd v).cn = s.cn := rfl
theorem wr_ch_knd {s : sSt} {v : Nat → Nat} : (s.w_knd v).ch = s.ch := rfl
theorem wr_qs_knd {s : sSt} {v : Nat → Nat} : (s.w_knd v).qs = s.qs := rfl
theorem wr_es_knd {s : sSt} {v : Nat → Nat} : (s.w_knd v).es = s.es := rfl
theorem wr_bs_knd {s : sSt} {v : Nat → Nat} : (s.w_knd v).bs = s.bs := rfl
theorem wr_cs_knd {s : sSt} {v : Nat → Nat} : (s.w_knd v).cs = s.cs := rfl
theorem wr_dead_knd {s : sSt} {v : Nat → Nat} : (s.w_knd v).dead = s.dead := rfl
theorem wr_facts_knd {s : sSt} {v : Nat → Nat} : (s.w_knd v).facts = s.facts := rfl
theorem wr_sqs_knd {s : sSt} {v : Nat → Nat} : (s.w_knd v).sqs = s.sqs := rfl
theorem wr_ses_knd {s : sSt} {v : Nat → Nat} : (s.w_knd v).ses = s.ses := rfl
theorem wr_sbs_knd {s : sSt} {v : Nat → Nat} : (s.w_knd v).sbs = s.sbs := rfl
theorem wr_sen_knd {s : sSt} {v : Nat → Nat} : (s.w_knd v).sen = s.sen := rfl
theorem wr_messages_knd {s : sSt} {v : Nat → Nat} : (s.w_knd v).messages = s.messages := rfl
theorem wr_lastNum_knd {s : sSt} {v : Nat → Nat} : (s.w_knd v).lastNum = s.lastNum := rfl
theorem wr_gener_knd {s : sSt} {v : Nat → Nat} : (s.w_knd v).gener = s.gener := rfl
theorem wr_clock_knd {s : sSt} {v : Nat → Nat} : (s.w_knd v).clock = s.clock := rfl
theorem wr_deadOnes_knd {s : sSt} {v : Nat → Nat} : (s.w_knd v).deadOnes = s.deadOnes := rfl
theorem wr_crashes_knd {s : sSt} {v : Nat → Nat} : (s.w_knd v).crashes = s.crashes := rfl
theorem wr_tape_knd {s : sSt} {v : Nat → Nat} : (s.w_knd v).tape = s.tape := rfl
theorem wr_next_knd {s : sSt} {v : Nat → Nat} : (s.w_knd v).next = s.next := rfl
theorem wr_knd {s : sSt} {v : Nat → Nat} : (s.w_knd v).knd = v := rfl
theorem wt_qu {s : sSt} {k : Int32} {i : Nat} : (s_tell s k i).qu = s.qu := rfl
theorem wt_ex {s : sSt} {k : Int32} {i : Nat} : (s_tell s k i).ex = s.ex := rfl
theorem wt_bi {s : sSt} {k : Int32} {i : Nat} : (s_tell s k i).bi = s.bi := rfl
theorem wt_co {s : sSt} {k : Int32} {i : Nat} : (s_tell s k i).co = s.co := rfl
theorem wt_en {s : sSt} {k : Int32} {i : Nat} : (s_tell s k i).en = s.en := rfl
theorem wt_se {s : sSt} {k : Int32} {i : Nat} : (s_tell s k i).se = s.se := rfl
theorem wt_cn {s : sSt} {k : Int32} {i : Nat} : (s_tell s k i).cn = s.cn := rfl
theorem wt_ch {s : sSt} {k : Int32} {i : Nat} : (s_tell s k i).ch = s.ch := rfl
theorem wt_qs {s : sSt} {k : Int32} {i : Nat} : (s_tell s k i).qs = s.qs := rfl
theorem wt_es {s : sSt} {k : Int32} {i : Nat} : (s_tell s k i).es = s.es := rfl
theorem wt_bs {s : sSt} {k : Int32} {i : Nat} : (s_tell s k i).bs = s.bs := rfl
theorem wt_cs {s : sSt} {k : Int32} {i : Nat} : (s_tell s k i).cs = s.cs := rfl
theorem wt_dead {s : sSt} {k : Int32} {i : Nat} : (s_tell s k i).dead = s.dead := rfl
theorem wt_sqs {s : sSt} {k : Int32} {i : Nat} : (s_tell s k i).sqs = s.sqs := rfl
theorem wt_ses {s : sSt} {k : Int32} {i : Nat} : (s_tell s k i).ses = s.ses := rfl
theorem wt_sbs {s : sSt} {k : Int32} {i : Nat} : (s_tell s k i).sbs = s.sbs := rfl
theorem wt_sen {s : sSt} {k : Int32} {i : Nat} : (s_tell s k i).sen = s.sen := rfl
theorem wt_messages {s : sSt} {k : Int32} {i : Nat} : (s_tell s k i).messages = s.messages := rfl
theorem wt_lastNum {s : sSt} {k : Int32} {i : Nat} : (s_tell s k i).lastNum = s.lastNum := rfl
theorem wt_gener {s : sSt} {k : Int32} {i : Nat} : (s_tell s k i).gener = s.gener := rfl
theorem wt_clock {s : sSt} {k : Int32} {i : Nat} : (s_tell s k i).clock = s.clock := rfl
theorem wt_deadOnes {s : sSt} {k : Int32} {i : Nat} : (s_tell s k i).deadOnes = s.deadOnes := rfl
theorem wt_crashes {s : sSt} {k : Int32} {i : Nat} : (s_tell s k i).crashes = s.crashes := rfl
theorem wt_tape {s : sSt} {k : Int32} {i : Nat} : (s_tell s k i).tape = s.tape := rfl
theorem wt_next {s : sSt} {k : Int32} {i : Nat} : (s_tell s k i).next = s.next := rfl
theorem wt_knd {s : sSt} {k : Int32} {i : Nat} : (s_tell s k i).knd = s.knd := rfl
theorem wt_facts {s : sSt} {k : Int32} {i : Nat} : (s_tell s k i).facts = s.facts ++ [(k, i)] := rfl
